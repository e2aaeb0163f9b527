section XWALK
variable {p : Program} {l : Launch} {e : Env} {R : Room} {s : State} {m : MethodId} {args : Array Value} {below : List Frame} {meth : Method} {c0 : Code} {H : Heap} {locs : List Loc} {cells slots : Nat} {Q : State → Prop}
variable {cc : ByteArray} {nL : Nat} {ret : Option FieldType} {pc : Nat} {ls : Array Slot} {rest : List Value} {D : va_G} {A : Nat → Prop} {G : Nat → ClassId} {dsc : Nat → Option Dsc} {ad : Nat → Nat} {σ : Sto} {nr nw nu : Nat}
/-! X1_times (II)I -/
def sgX1_times (σ : Sto) (w0 : Int32) (w1 : Int32) (w2 : Int32) (w3 : Int32) (w4 : Int32) (w5 : Int32) (w6 : Int32) (w7 : Int32) (w8 : Int64) (w9 : Nat → Int32) (w10 : Nat → Int32) (w11 : Nat → Int32) (w12 : Nat → Int32) (w13 : Nat → Int64) (w14 : Nat → Int64) (w15 : Nat → Int64) (w16 : Nat → Int64) (w17 : Nat → Int64) : Sto := aL (aL (aL (aL (aL (aI (aI (aI (aI (zL (zI (zI (zI (zI (zI (zI (zI (zI σ 1018 w0) 1019 w1) 1020 w2) 1062 w3) 1082 w4) 1092 w5) 1094 w6) 1095 w7) 1052 w8) 1108 w9) 1160 w10) 1162 w11) 1163 w12) 1140 w13) 1141 w14) 1150 w15) 1152 w16) 1153 w17
theorem sgX1_times_self (σ : Sto) : sgX1_times σ (σ.1 1018) (σ.1 1019) (σ.1 1020) (σ.1 1062) (σ.1 1082) (σ.1 1092) (σ.1 1094) (σ.1 1095) (σ.2.1 1052) (σ.2.2.1 1108) (σ.2.2.1 1160) (σ.2.2.1 1162) (σ.2.2.1 1163) (σ.2.2.2.1 1140) (σ.2.2.2.1 1141) (σ.2.2.2.1 1150) (σ.2.2.2.1 1152) (σ.2.2.2.1 1153) = σ := by
  unfold sgX1_times
  simp only [zI_self, zL_self, aI_self, aL_self]
theorem sgX1_times_zI1018 {σ : Sto} {w0 : Int32} {w1 : Int32} {w2 : Int32} {w3 : Int32} {w4 : Int32} {w5 : Int32} {w6 : Int32} {w7 : Int32} {w8 : Int64} {w9 : Nat → Int32} {w10 : Nat → Int32} {w11 : Nat → Int32} {w12 : Nat → Int32} {w13 : Nat → Int64} {w14 : Nat → Int64} {w15 : Nat → Int64} {w16 : Nat → Int64} {w17 : Nat → Int64} {g : Int32} : zI (sgX1_times σ w0 w1 w2 w3 w4 w5 w6 w7 w8 w9 w10 w11 w12 w13 w14 w15 w16 w17) 1018 g = sgX1_times σ g w1 w2 w3 w4 w5 w6 w7 w8 w9 w10 w11 w12 w13 w14 w15 w16 w17 := (cm_zI_aL _ _ _ _ _).trans (congrArg (fun z => aL z 1153 w17) ((cm_zI_aL _ _ _ _ _).trans (congrArg (fun z => aL z 1152 w16) ((cm_zI_aL _ _ _ _ _).trans (congrArg (fun z => aL z 1150 w15) ((cm_zI_aL _ _ _ _ _).trans (congrArg (fun z => aL z 1141 w14) ((cm_zI_aL _ _ _ _ _).trans (congrArg (fun z => aL z 1140 w13) ((cm_zI_aI _ _ _ _ _).trans (congrArg (fun z => aI z 1163 w12) ((cm_zI_aI _ _ _ _ _).trans (congrArg (fun z => aI z 1162 w11) ((cm_zI_aI _ _ _ _ _).trans (congrArg (fun z => aI z 1160 w10) ((cm_zI_aI _ _ _ _ _).trans (congrArg (fun z => aI z 1108 w9) ((cm_zI_zL _ _ _ _ _).trans (congrArg (fun z => zL z 1052 w8) ((zI_comm _ (by decide) _ _).trans (congrArg (fun z => zI z 1095 w7) ((zI_comm _ (by decide) _ _).trans (congrArg (fun z => zI z 1094 w6) ((zI_comm _ (by decide) _ _).trans (congrArg (fun z => zI z 1092 w5) ((zI_comm _ (by decide) _ _).trans (congrArg (fun z => zI z 1082 w4) ((zI_comm _ (by decide) _ _).trans (congrArg (fun z => zI z 1062 w3) ((zI_comm _ (by decide) _ _).trans (congrArg (fun z => zI z 1020 w2) ((zI_comm _ (by decide) _ _).trans (congrArg (fun z => zI z 1019 w1) (zI_zI _ 1018 _ _))))))))))))))))))))))))))))))))))
theorem sgX1_times_zI1019 {σ : Sto} {w0 : Int32} {w1 : Int32} {w2 : Int32} {w3 : Int32} {w4 : Int32} {w5 : Int32} {w6 : Int32} {w7 : Int32} {w8 : Int64} {w9 : Nat → Int32} {w10 : Nat → Int32} {w11 : Nat → Int32} {w12 : Nat → Int32} {w13 : Nat → Int64} {w14 : Nat → Int64} {w15 : Nat → Int64} {w16 : Nat → Int64} {w17 : Nat → Int64} {g : Int32} : zI (sgX1_times σ w0 w1 w2 w3 w4 w5 w6 w7 w8 w9 w10 w11 w12 w13 w14 w15 w16 w17) 1019 g = sgX1_times σ w0 g w2 w3 w4 w5 w6 w7 w8 w9 w10 w11 w12 w13 w14 w15 w16 w17 := (cm_zI_aL _ _ _ _ _).trans (congrArg (fun z => aL z 1153 w17) ((cm_zI_aL _ _ _ _ _).trans (congrArg (fun z => aL z 1152 w16) ((cm_zI_aL _ _ _ _ _).trans (congrArg (fun z => aL z 1150 w15) ((cm_zI_aL _ _ _ _ _).trans (congrArg (fun z => aL z 1141 w14) ((cm_zI_aL _ _ _ _ _).trans (congrArg (fun z => aL z 1140 w13) ((cm_zI_aI _ _ _ _ _).trans (congrArg (fun z => aI z 1163 w12) ((cm_zI_aI _ _ _ _ _).trans (congrArg (fun z => aI z 1162 w11) ((cm_zI_aI _ _ _ _ _).trans (congrArg (fun z => aI z 1160 w10) ((cm_zI_aI _ _ _ _ _).trans (congrArg (fun z => aI z 1108 w9) ((cm_zI_zL _ _ _ _ _).trans (congrArg (fun z => zL z 1052 w8) ((zI_comm _ (by decide) _ _).trans (congrArg (fun z => zI z 1095 w7) ((zI_comm _ (by decide) _ _).trans (congrArg (fun z => zI z 1094 w6) ((zI_comm _ (by decide) _ _).trans (congrArg (fun z => zI z 1092 w5) ((zI_comm _ (by decide) _ _).trans (congrArg (fun z => zI z 1082 w4) ((zI_comm _ (by decide) _ _).trans (congrArg (fun z => zI z 1062 w3) ((zI_comm _ (by decide) _ _).trans (congrArg (fun z => zI z 1020 w2) (zI_zI _ 1019 _ _))))))))))))))))))))))))))))))))
theorem sgX1_times_zI1020 {σ : Sto} {w0 : Int32} {w1 : Int32} {w2 : Int32} {w3 : Int32} {w4 : Int32} {w5 : Int32} {w6 : Int32} {w7 : Int32} {w8 : Int64} {w9 : Nat → Int32} {w10 : Nat → Int32} {w11 : Nat → Int32} {w12 : Nat → Int32} {w13 : Nat → Int64} {w14 : Nat → Int64} {w15 : Nat → Int64} {w16 : Nat → Int64} {w17 : Nat → Int64} {g : Int32} : zI (sgX1_times σ w0 w1 w2 w3 w4 w5 w6 w7 w8 w9 w10 w11 w12 w13 w14 w15 w16 w17) 1020 g = sgX1_times σ w0 w1 g w3 w4 w5 w6 w7 w8 w9 w10 w11 w12 w13 w14 w15 w16 w17 := (cm_zI_aL _ _ _ _ _).trans (congrArg (fun z => aL z 1153 w17) ((cm_zI_aL _ _ _ _ _).trans (congrArg (fun z => aL z 1152 w16) ((cm_zI_aL _ _ _ _ _).trans (congrArg (fun z => aL z 1150 w15) ((cm_zI_aL _ _ _ _ _).trans (congrArg (fun z => aL z 1141 w14) ((cm_zI_aL _ _ _ _ _).trans (congrArg (fun z => aL z 1140 w13) ((cm_zI_aI _ _ _ _ _).trans (congrArg (fun z => aI z 1163 w12) ((cm_zI_aI _ _ _ _ _).trans (congrArg (fun z => aI z 1162 w11) ((cm_zI_aI _ _ _ _ _).trans (congrArg (fun z => aI z 1160 w10) ((cm_zI_aI _ _ _ _ _).trans (congrArg (fun z => aI z 1108 w9) ((cm_zI_zL _ _ _ _ _).trans (congrArg (fun z => zL z 1052 w8) ((zI_comm _ (by decide) _ _).trans (congrArg (fun z => zI z 1095 w7) ((zI_comm _ (by decide) _ _).trans (congrArg (fun z => zI z 1094 w6) ((zI_comm _ (by decide) _ _).trans (congrArg (fun z => zI z 1092 w5) ((zI_comm _ (by decide) _ _).trans (congrArg (fun z => zI z 1082 w4) ((zI_comm _ (by decide) _ _).trans (congrArg (fun z => zI z 1062 w3) (zI_zI _ 1020 _ _))))))))))))))))))))))))))))))
theorem sgX1_times_zI1062 {σ : Sto} {w0 : Int32} {w1 : Int32} {w2 : Int32} {w3 : Int32} {w4 : Int32} {w5 : Int32} {w6 : Int32} {w7 : Int32} {w8 : Int64} {w9 : Nat → Int32} {w10 : Nat → Int32} {w11 : Nat → Int32} {w12 : Nat → Int32} {w13 : Nat → Int64} {w14 : Nat → Int64} {w15 : Nat → Int64} {w16 : Nat → Int64} {w17 : Nat → Int64} {g : Int32} : zI (sgX1_times σ w0 w1 w2 w3 w4 w5 w6 w7 w8 w9 w10 w11 w12 w13 w14 w15 w16 w17) 1062 g = sgX1_times σ w0 w1 w2 g w4 w5 w6 w7 w8 w9 w10 w11 w12 w13 w14 w15 w16 w17 := (cm_zI_aL _ _ _ _ _).trans (congrArg (fun z => aL z 1153 w17) ((cm_zI_aL _ _ _ _ _).trans (congrArg (fun z => aL z 1152 w16) ((cm_zI_aL _ _ _ _ _).trans (congrArg (fun z => aL z 1150 w15) ((cm_zI_aL _ _ _ _ _).trans (congrArg (fun z => aL z 1141 w14) ((cm_zI_aL _ _ _ _ _).trans (congrArg (fun z => aL z 1140 w13) ((cm_zI_aI _ _ _ _ _).trans (congrArg (fun z => aI z 1163 w12) ((cm_zI_aI _ _ _ _ _).trans (congrArg (fun z => aI z 1162 w11) ((cm_zI_aI _ _ _ _ _).trans (congrArg (fun z => aI z 1160 w10) ((cm_zI_aI _ _ _ _ _).trans (congrArg (fun z => aI z 1108 w9) ((cm_zI_zL _ _ _ _ _).trans (congrArg (fun z => zL z 1052 w8) ((zI_comm _ (by decide) _ _).trans (congrArg (fun z => zI z 1095 w7) ((zI_comm _ (by decide) _ _).trans (congrArg (fun z => zI z 1094 w6) ((zI_comm _ (by decide) _ _).trans (congrArg (fun z => zI z 1092 w5) ((zI_comm _ (by decide) _ _).trans (congrArg (fun z => zI z 1082 w4) (zI_zI _ 1062 _ _))))))))))))))))))))))))))))
theorem sgX1_times_zI1082 {σ : Sto} {w0 : Int32} {w1 : Int32} {w2 : Int32} {w3 : Int32} {w4 : Int32} {w5 : Int32} {w6 : Int32} {w7 : Int32} {w8 : Int64} {w9 : Nat → Int32} {w10 : Nat → Int32} {w11 : Nat → Int32} {w12 : Nat → Int32} {w13 : Nat → Int64} {w14 : Nat → Int64} {w15 : Nat → Int64} {w16 : Nat → Int64} {w17 : Nat → Int64} {g : Int32} : zI (sgX1_times σ w0 w1 w2 w3 w4 w5 w6 w7 w8 w9 w10 w11 w12 w13 w14 w15 w16 w17) 1082 g = sgX1_times σ w0 w1 w2 w3 g w5 w6 w7 w8 w9 w10 w11 w12 w13 w14 w15 w16 w17 := (cm_zI_aL _ _ _ _ _).trans (congrArg (fun z => aL z 1153 w17) ((cm_zI_aL _ _ _ _ _).trans (congrArg (fun z => aL z 1152 w16) ((cm_zI_aL _ _ _ _ _).trans (congrArg (fun z => aL z 1150 w15) ((cm_zI_aL _ _ _ _ _).trans (congrArg (fun z => aL z 1141 w14) ((cm_zI_aL _ _ _ _ _).trans (congrArg (fun z => aL z 1140 w13) ((cm_zI_aI _ _ _ _ _).trans (congrArg (fun z => aI z 1163 w12) ((cm_zI_aI _ _ _ _ _).trans (congrArg (fun z => aI z 1162 w11) ((cm_zI_aI _ _ _ _ _).trans (congrArg (fun z => aI z 1160 w10) ((cm_zI_aI _ _ _ _ _).trans (congrArg (fun z => aI z 1108 w9) ((cm_zI_zL _ _ _ _ _).trans (congrArg (fun z => zL z 1052 w8) ((zI_comm _ (by decide) _ _).trans (congrArg (fun z => zI z 1095 w7) ((zI_comm _ (by decide) _ _).trans (congrArg (fun z => zI z 1094 w6) ((zI_comm _ (by decide) _ _).trans (congrArg (fun z => zI z 1092 w5) (zI_zI _ 1082 _ _))))))))))))))))))))))))))
theorem sgX1_times_zI1092 {σ : Sto} {w0 : Int32} {w1 : Int32} {w2 : Int32} {w3 : Int32} {w4 : Int32} {w5 : Int32} {w6 : Int32} {w7 : Int32} {w8 : Int64} {w9 : Nat → Int32} {w10 : Nat → Int32} {w11 : Nat → Int32} {w12 : Nat → Int32} {w13 : Nat → Int64} {w14 : Nat → Int64} {w15 : Nat → Int64} {w16 : Nat → Int64} {w17 : Nat → Int64} {g : Int32} : zI (sgX1_times σ w0 w1 w2 w3 w4 w5 w6 w7 w8 w9 w10 w11 w12 w13 w14 w15 w16 w17) 1092 g = sgX1_times σ w0 w1 w2 w3 w4 g w6 w7 w8 w9 w10 w11 w12 w13 w14 w15 w16 w17 := (cm_zI_aL _ _ _ _ _).trans (congrArg (fun z => aL z 1153 w17) ((cm_zI_aL _ _ _ _ _).trans (congrArg (fun z => aL z 1152 w16) ((cm_zI_aL _ _ _ _ _).trans (congrArg (fun z => aL z 1150 w15) ((cm_zI_aL _ _ _ _ _).trans (congrArg (fun z => aL z 1141 w14) ((cm_zI_aL _ _ _ _ _).trans (congrArg (fun z => aL z 1140 w13) ((cm_zI_aI _ _ _ _ _).trans (congrArg (fun z => aI z 1163 w12) ((cm_zI_aI _ _ _ _ _).trans (congrArg (fun z => aI z 1162 w11) ((cm_zI_aI _ _ _ _ _).trans (congrArg (fun z => aI z 1160 w10) ((cm_zI_aI _ _ _ _ _).trans (congrArg (fun z => aI z 1108 w9) ((cm_zI_zL _ _ _ _ _).trans (congrArg (fun z => zL z 1052 w8) ((zI_comm _ (by decide) _ _).trans (congrArg (fun z => zI z 1095 w7) ((zI_comm _ (by decide) _ _).trans (congrArg (fun z => zI z 1094 w6) (zI_zI _ 1092 _ _))))))))))))))))))))))))
theorem sgX1_times_zI1094 {σ : Sto} {w0 : Int32} {w1 : Int32} {w2 : Int32} {w3 : Int32} {w4 : Int32} {w5 : Int32} {w6 : Int32} {w7 : Int32} {w8 : Int64} {w9 : Nat → Int32} {w10 : Nat → Int32} {w11 : Nat → Int32} {w12 : Nat → Int32} {w13 : Nat → Int64} {w14 : Nat → Int64} {w15 : Nat → Int64} {w16 : Nat → Int64} {w17 : Nat → Int64} {g : Int32} : zI (sgX1_times σ w0 w1 w2 w3 w4 w5 w6 w7 w8 w9 w10 w11 w12 w13 w14 w15 w16 w17) 1094 g = sgX1_times σ w0 w1 w2 w3 w4 w5 g w7 w8 w9 w10 w11 w12 w13 w14 w15 w16 w17 := (cm_zI_aL _ _ _ _ _).trans (congrArg (fun z => aL z 1153 w17) ((cm_zI_aL _ _ _ _ _).trans (congrArg (fun z => aL z 1152 w16) ((cm_zI_aL _ _ _ _ _).trans (congrArg (fun z => aL z 1150 w15) ((cm_zI_aL _ _ _ _ _).trans (congrArg (fun z => aL z 1141 w14) ((cm_zI_aL _ _ _ _ _).trans (congrArg (fun z => aL z 1140 w13) ((cm_zI_aI _ _ _ _ _).trans (congrArg (fun z => aI z 1163 w12) ((cm_zI_aI _ _ _ _ _).trans (congrArg (fun z => aI z 1162 w11) ((cm_zI_aI _ _ _ _ _).trans (congrArg (fun z => aI z 1160 w10) ((cm_zI_aI _ _ _ _ _).trans (congrArg (fun z => aI z 1108 w9) ((cm_zI_zL _ _ _ _ _).trans (congrArg (fun z => zL z 1052 w8) ((zI_comm _ (by decide) _ _).trans (congrArg (fun z => zI z 1095 w7) (zI_zI _ 1094 _ _))))))))))))))))))))))
theorem sgX1_times_zI1095 {σ : Sto} {w0 : Int32} {w1 : Int32} {w2 : Int32} {w3 : Int32} {w4 : Int32} {w5 : Int32} {w6 : Int32} {w7 : Int32} {w8 : Int64} {w9 : Nat → Int32} {w10 : Nat → Int32} {w11 : Nat → Int32} {w12 : Nat → Int32} {w13 : Nat → Int64} {w14 : Nat → Int64} {w15 : Nat → Int64} {w16 : Nat → Int64} {w17 : Nat → Int64} {g : Int32} : zI (sgX1_times σ w0 w1 w2 w3 w4 w5 w6 w7 w8 w9 w10 w11 w12 w13 w14 w15 w16 w17) 1095 g = sgX1_times σ w0 w1 w2 w3 w4 w5 w6 g w8 w9 w10 w11 w12 w13 w14 w15 w16 w17 := (cm_zI_aL _ _ _ _ _).trans (congrArg (fun z => aL z 1153 w17) ((cm_zI_aL _ _ _ _ _).trans (congrArg (fun z => aL z 1152 w16) ((cm_zI_aL _ _ _ _ _).trans (congrArg (fun z => aL z 1150 w15) ((cm_zI_aL _ _ _ _ _).trans (congrArg (fun z => aL z 1141 w14) ((cm_zI_aL _ _ _ _ _).trans (congrArg (fun z => aL z 1140 w13) ((cm_zI_aI _ _ _ _ _).trans (congrArg (fun z => aI z 1163 w12) ((cm_zI_aI _ _ _ _ _).trans (congrArg (fun z => aI z 1162 w11) ((cm_zI_aI _ _ _ _ _).trans (congrArg (fun z => aI z 1160 w10) ((cm_zI_aI _ _ _ _ _).trans (congrArg (fun z => aI z 1108 w9) ((cm_zI_zL _ _ _ _ _).trans (congrArg (fun z => zL z 1052 w8) (zI_zI _ 1095 _ _))))))))))))))))))))
theorem sgX1_times_zL1052 {σ : Sto} {w0 : Int32} {w1 : Int32} {w2 : Int32} {w3 : Int32} {w4 : Int32} {w5 : Int32} {w6 : Int32} {w7 : Int32} {w8 : Int64} {w9 : Nat → Int32} {w10 : Nat → Int32} {w11 : Nat → Int32} {w12 : Nat → Int32} {w13 : Nat → Int64} {w14 : Nat → Int64} {w15 : Nat → Int64} {w16 : Nat → Int64} {w17 : Nat → Int64} {g : Int64} : zL (sgX1_times σ w0 w1 w2 w3 w4 w5 w6 w7 w8 w9 w10 w11 w12 w13 w14 w15 w16 w17) 1052 g = sgX1_times σ w0 w1 w2 w3 w4 w5 w6 w7 g w9 w10 w11 w12 w13 w14 w15 w16 w17 := (cm_zL_aL _ _ _ _ _).trans (congrArg (fun z => aL z 1153 w17) ((cm_zL_aL _ _ _ _ _).trans (congrArg (fun z => aL z 1152 w16) ((cm_zL_aL _ _ _ _ _).trans (congrArg (fun z => aL z 1150 w15) ((cm_zL_aL _ _ _ _ _).trans (congrArg (fun z => aL z 1141 w14) ((cm_zL_aL _ _ _ _ _).trans (congrArg (fun z => aL z 1140 w13) ((cm_zL_aI _ _ _ _ _).trans (congrArg (fun z => aI z 1163 w12) ((cm_zL_aI _ _ _ _ _).trans (congrArg (fun z => aI z 1162 w11) ((cm_zL_aI _ _ _ _ _).trans (congrArg (fun z => aI z 1160 w10) ((cm_zL_aI _ _ _ _ _).trans (congrArg (fun z => aI z 1108 w9) (zL_zL _ 1052 _ _))))))))))))))))))
theorem sgX1_times_aI1108 {σ : Sto} {w0 : Int32} {w1 : Int32} {w2 : Int32} {w3 : Int32} {w4 : Int32} {w5 : Int32} {w6 : Int32} {w7 : Int32} {w8 : Int64} {w9 : Nat → Int32} {w10 : Nat → Int32} {w11 : Nat → Int32} {w12 : Nat → Int32} {w13 : Nat → Int64} {w14 : Nat → Int64} {w15 : Nat → Int64} {w16 : Nat → Int64} {w17 : Nat → Int64} {g : Nat → Int32} : aI (sgX1_times σ w0 w1 w2 w3 w4 w5 w6 w7 w8 w9 w10 w11 w12 w13 w14 w15 w16 w17) 1108 g = sgX1_times σ w0 w1 w2 w3 w4 w5 w6 w7 w8 g w10 w11 w12 w13 w14 w15 w16 w17 := (cm_aI_aL _ _ _ _ _).trans (congrArg (fun z => aL z 1153 w17) ((cm_aI_aL _ _ _ _ _).trans (congrArg (fun z => aL z 1152 w16) ((cm_aI_aL _ _ _ _ _).trans (congrArg (fun z => aL z 1150 w15) ((cm_aI_aL _ _ _ _ _).trans (congrArg (fun z => aL z 1141 w14) ((cm_aI_aL _ _ _ _ _).trans (congrArg (fun z => aL z 1140 w13) ((aI_comm _ (by decide) _ _).trans (congrArg (fun z => aI z 1163 w12) ((aI_comm _ (by decide) _ _).trans (congrArg (fun z => aI z 1162 w11) ((aI_comm _ (by decide) _ _).trans (congrArg (fun z => aI z 1160 w10) (aI_aI _ 1108 _ _))))))))))))))))
theorem sgX1_times_aI1160 {σ : Sto} {w0 : Int32} {w1 : Int32} {w2 : Int32} {w3 : Int32} {w4 : Int32} {w5 : Int32} {w6 : Int32} {w7 : Int32} {w8 : Int64} {w9 : Nat → Int32} {w10 : Nat → Int32} {w11 : Nat → Int32} {w12 : Nat → Int32} {w13 : Nat → Int64} {w14 : Nat → Int64} {w15 : Nat → Int64} {w16 : Nat → Int64} {w17 : Nat → Int64} {g : Nat → Int32} : aI (sgX1_times σ w0 w1 w2 w3 w4 w5 w6 w7 w8 w9 w10 w11 w12 w13 w14 w15 w16 w17) 1160 g = sgX1_times σ w0 w1 w2 w3 w4 w5 w6 w7 w8 w9 g w11 w12 w13 w14 w15 w16 w17 := (cm_aI_aL _ _ _ _ _).trans (congrArg (fun z => aL z 1153 w17) ((cm_aI_aL _ _ _ _ _).trans (congrArg (fun z => aL z 1152 w16) ((cm_aI_aL _ _ _ _ _).trans (congrArg (fun z => aL z 1150 w15) ((cm_aI_aL _ _ _ _ _).trans (congrArg (fun z => aL z 1141 w14) ((cm_aI_aL _ _ _ _ _).trans (congrArg (fun z => aL z 1140 w13) ((aI_comm _ (by decide) _ _).trans (congrArg (fun z => aI z 1163 w12) ((aI_comm _ (by decide) _ _).trans (congrArg (fun z => aI z 1162 w11) (aI_aI _ 1160 _ _))))))))))))))
theorem sgX1_times_aI1162 {σ : Sto} {w0 : Int32} {w1 : Int32} {w2 : Int32} {w3 : Int32} {w4 : Int32} {w5 : Int32} {w6 : Int32} {w7 : Int32} {w8 : Int64} {w9 : Nat → Int32} {w10 : Nat → Int32} {w11 : Nat → Int32} {w12 : Nat → Int32} {w13 : Nat → Int64} {w14 : Nat → Int64} {w15 : Nat → Int64} {w16 : Nat → Int64} {w17 : Nat → Int64} {g : Nat → Int32} : aI (sgX1_times σ w0 w1 w2 w3 w4 w5 w6 w7 w8 w9 w10 w11 w12 w13 w14 w15 w16 w17) 1162 g = sgX1_times σ w0 w1 w2 w3 w4 w5 w6 w7 w8 w9 w10 g w12 w13 w14 w15 w16 w17 := (cm_aI_aL _ _ _ _ _).trans (congrArg (fun z => aL z 1153 w17) ((cm_aI_aL _ _ _ _ _).trans (congrArg (fun z => aL z 1152 w16) ((cm_aI_aL _ _ _ _ _).trans (congrArg (fun z => aL z 1150 w15) ((cm_aI_aL _ _ _ _ _).trans (congrArg (fun z => aL z 1141 w14) ((cm_aI_aL _ _ _ _ _).trans (congrArg (fun z => aL z 1140 w13) ((aI_comm _ (by decide) _ _).trans (congrArg (fun z => aI z 1163 w12) (aI_aI _ 1162 _ _))))))))))))
theorem sgX1_times_aI1163 {σ : Sto} {w0 : Int32} {w1 : Int32} {w2 : Int32} {w3 : Int32} {w4 : Int32} {w5 : Int32} {w6 : Int32} {w7 : Int32} {w8 : Int64} {w9 : Nat → Int32} {w10 : Nat → Int32} {w11 : Nat → Int32} {w12 : Nat → Int32} {w13 : Nat → Int64} {w14 : Nat → Int64} {w15 : Nat → Int64} {w16 : Nat → Int64} {w17 : Nat → Int64} {g : Nat → Int32} : aI (sgX1_times σ w0 w1 w2 w3 w4 w5 w6 w7 w8 w9 w10 w11 w12 w13 w14 w15 w16 w17) 1163 g = sgX1_times σ w0 w1 w2 w3 w4 w5 w6 w7 w8 w9 w10 w11 g w13 w14 w15 w16 w17 := (cm_aI_aL _ _ _ _ _).trans (congrArg (fun z => aL z 1153 w17) ((cm_aI_aL _ _ _ _ _).trans (congrArg (fun z => aL z 1152 w16) ((cm_aI_aL _ _ _ _ _).trans (congrArg (fun z => aL z 1150 w15) ((cm_aI_aL _ _ _ _ _).trans (congrArg (fun z => aL z 1141 w14) ((cm_aI_aL _ _ _ _ _).trans (congrArg (fun z => aL z 1140 w13) (aI_aI _ 1163 _ _))))))))))
theorem sgX1_times_aL1140 {σ : Sto} {w0 : Int32} {w1 : Int32} {w2 : Int32} {w3 : Int32} {w4 : Int32} {w5 : Int32} {w6 : Int32} {w7 : Int32} {w8 : Int64} {w9 : Nat → Int32} {w10 : Nat → Int32} {w11 : Nat → Int32} {w12 : Nat → Int32} {w13 : Nat → Int64} {w14 : Nat → Int64} {w15 : Nat → Int64} {w16 : Nat → Int64} {w17 : Nat → Int64} {g : Nat → Int64} : aL (sgX1_times σ w0 w1 w2 w3 w4 w5 w6 w7 w8 w9 w10 w11 w12 w13 w14 w15 w16 w17) 1140 g = sgX1_times σ w0 w1 w2 w3 w4 w5 w6 w7 w8 w9 w10 w11 w12 g w14 w15 w16 w17 := (aL_comm _ (by decide) _ _).trans (congrArg (fun z => aL z 1153 w17) ((aL_comm _ (by decide) _ _).trans (congrArg (fun z => aL z 1152 w16) ((aL_comm _ (by decide) _ _).trans (congrArg (fun z => aL z 1150 w15) ((aL_comm _ (by decide) _ _).trans (congrArg (fun z => aL z 1141 w14) (aL_aL _ 1140 _ _))))))))
theorem sgX1_times_aL1141 {σ : Sto} {w0 : Int32} {w1 : Int32} {w2 : Int32} {w3 : Int32} {w4 : Int32} {w5 : Int32} {w6 : Int32} {w7 : Int32} {w8 : Int64} {w9 : Nat → Int32} {w10 : Nat → Int32} {w11 : Nat → Int32} {w12 : Nat → Int32} {w13 : Nat → Int64} {w14 : Nat → Int64} {w15 : Nat → Int64} {w16 : Nat → Int64} {w17 : Nat → Int64} {g : Nat → Int64} : aL (sgX1_times σ w0 w1 w2 w3 w4 w5 w6 w7 w8 w9 w10 w11 w12 w13 w14 w15 w16 w17) 1141 g = sgX1_times σ w0 w1 w2 w3 w4 w5 w6 w7 w8 w9 w10 w11 w12 w13 g w15 w16 w17 := (aL_comm _ (by decide) _ _).trans (congrArg (fun z => aL z 1153 w17) ((aL_comm _ (by decide) _ _).trans (congrArg (fun z => aL z 1152 w16) ((aL_comm _ (by decide) _ _).trans (congrArg (fun z => aL z 1150 w15) (aL_aL _ 1141 _ _))))))
theorem sgX1_times_aL1150 {σ : Sto} {w0 : Int32} {w1 : Int32} {w2 : Int32} {w3 : Int32} {w4 : Int32} {w5 : Int32} {w6 : Int32} {w7 : Int32} {w8 : Int64} {w9 : Nat → Int32} {w10 : Nat → Int32} {w11 : Nat → Int32} {w12 : Nat → Int32} {w13 : Nat → Int64} {w14 : Nat → Int64} {w15 : Nat → Int64} {w16 : Nat → Int64} {w17 : Nat → Int64} {g : Nat → Int64} : aL (sgX1_times σ w0 w1 w2 w3 w4 w5 w6 w7 w8 w9 w10 w11 w12 w13 w14 w15 w16 w17) 1150 g = sgX1_times σ w0 w1 w2 w3 w4 w5 w6 w7 w8 w9 w10 w11 w12 w13 w14 g w16 w17 := (aL_comm _ (by decide) _ _).trans (congrArg (fun z => aL z 1153 w17) ((aL_comm _ (by decide) _ _).trans (congrArg (fun z => aL z 1152 w16) (aL_aL _ 1150 _ _))))
theorem sgX1_times_aL1152 {σ : Sto} {w0 : Int32} {w1 : Int32} {w2 : Int32} {w3 : Int32} {w4 : Int32} {w5 : Int32} {w6 : Int32} {w7 : Int32} {w8 : Int64} {w9 : Nat → Int32} {w10 : Nat → Int32} {w11 : Nat → Int32} {w12 : Nat → Int32} {w13 : Nat → Int64} {w14 : Nat → Int64} {w15 : Nat → Int64} {w16 : Nat → Int64} {w17 : Nat → Int64} {g : Nat → Int64} : aL (sgX1_times σ w0 w1 w2 w3 w4 w5 w6 w7 w8 w9 w10 w11 w12 w13 w14 w15 w16 w17) 1152 g = sgX1_times σ w0 w1 w2 w3 w4 w5 w6 w7 w8 w9 w10 w11 w12 w13 w14 w15 g w17 := (aL_comm _ (by decide) _ _).trans (congrArg (fun z => aL z 1153 w17) (aL_aL _ 1152 _ _))
theorem sgX1_times_aL1153 {σ : Sto} {w0 : Int32} {w1 : Int32} {w2 : Int32} {w3 : Int32} {w4 : Int32} {w5 : Int32} {w6 : Int32} {w7 : Int32} {w8 : Int64} {w9 : Nat → Int32} {w10 : Nat → Int32} {w11 : Nat → Int32} {w12 : Nat → Int32} {w13 : Nat → Int64} {w14 : Nat → Int64} {w15 : Nat → Int64} {w16 : Nat → Int64} {w17 : Nat → Int64} {g : Nat → Int64} : aL (sgX1_times σ w0 w1 w2 w3 w4 w5 w6 w7 w8 w9 w10 w11 w12 w13 w14 w15 w16 w17) 1153 g = sgX1_times σ w0 w1 w2 w3 w4 w5 w6 w7 w8 w9 w10 w11 w12 w13 w14 w15 w16 g := aL_aL _ 1153 _ _
theorem sgX1_times_rzI1018 {σ : Sto} {w0 : Int32} {w1 : Int32} {w2 : Int32} {w3 : Int32} {w4 : Int32} {w5 : Int32} {w6 : Int32} {w7 : Int32} {w8 : Int64} {w9 : Nat → Int32} {w10 : Nat → Int32} {w11 : Nat → Int32} {w12 : Nat → Int32} {w13 : Nat → Int64} {w14 : Nat → Int64} {w15 : Nat → Int64} {w16 : Nat → Int64} {w17 : Nat → Int64} : (sgX1_times σ w0 w1 w2 w3 w4 w5 w6 w7 w8 w9 w10 w11 w12 w13 w14 w15 w16 w17).1 1018 = w0 := rfl
theorem sgX1_times_rzI1019 {σ : Sto} {w0 : Int32} {w1 : Int32} {w2 : Int32} {w3 : Int32} {w4 : Int32} {w5 : Int32} {w6 : Int32} {w7 : Int32} {w8 : Int64} {w9 : Nat → Int32} {w10 : Nat → Int32} {w11 : Nat → Int32} {w12 : Nat → Int32} {w13 : Nat → Int64} {w14 : Nat → Int64} {w15 : Nat → Int64} {w16 : Nat → Int64} {w17 : Nat → Int64} : (sgX1_times σ w0 w1 w2 w3 w4 w5 w6 w7 w8 w9 w10 w11 w12 w13 w14 w15 w16 w17).1 1019 = w1 := rfl
theorem sgX1_times_rzI1020 {σ : Sto} {w0 : Int32} {w1 : Int32} {w2 : Int32} {w3 : Int32} {w4 : Int32} {w5 : Int32} {w6 : Int32} {w7 : Int32} {w8 : Int64} {w9 : Nat → Int32} {w10 : Nat → Int32} {w11 : Nat → Int32} {w12 : Nat → Int32} {w13 : Nat → Int64} {w14 : Nat → Int64} {w15 : Nat → Int64} {w16 : Nat → Int64} {w17 : Nat → Int64} : (sgX1_times σ w0 w1 w2 w3 w4 w5 w6 w7 w8 w9 w10 w11 w12 w13 w14 w15 w16 w17).1 1020 = w2 := rfl
theorem sgX1_times_rzI1062 {σ : Sto} {w0 : Int32} {w1 : Int32} {w2 : Int32} {w3 : Int32} {w4 : Int32} {w5 : Int32} {w6 : Int32} {w7 : Int32} {w8 : Int64} {w9 : Nat → Int32} {w10 : Nat → Int32} {w11 : Nat → Int32} {w12 : Nat → Int32} {w13 : Nat → Int64} {w14 : Nat → Int64} {w15 : Nat → Int64} {w16 : Nat → Int64} {w17 : Nat → Int64} : (sgX1_times σ w0 w1 w2 w3 w4 w5 w6 w7 w8 w9 w10 w11 w12 w13 w14 w15 w16 w17).1 1062 = w3 := rfl
theorem sgX1_times_rzI1082 {σ : Sto} {w0 : Int32} {w1 : Int32} {w2 : Int32} {w3 : Int32} {w4 : Int32} {w5 : Int32} {w6 : Int32} {w7 : Int32} {w8 : Int64} {w9 : Nat → Int32} {w10 : Nat → Int32} {w11 : Nat → Int32} {w12 : Nat → Int32} {w13 : Nat → Int64} {w14 : Nat → Int64} {w15 : Nat → Int64} {w16 : Nat → Int64} {w17 : Nat → Int64} : (sgX1_times σ w0 w1 w2 w3 w4 w5 w6 w7 w8 w9 w10 w11 w12 w13 w14 w15 w16 w17).1 1082 = w4 := rfl
theorem sgX1_times_rzI1092 {σ : Sto} {w0 : Int32} {w1 : Int32} {w2 : Int32} {w3 : Int32} {w4 : Int32} {w5 : Int32} {w6 : Int32} {w7 : Int32} {w8 : Int64} {w9 : Nat → Int32} {w10 : Nat → Int32} {w11 : Nat → Int32} {w12 : Nat → Int32} {w13 : Nat → Int64} {w14 : Nat → Int64} {w15 : Nat → Int64} {w16 : Nat → Int64} {w17 : Nat → Int64} : (sgX1_times σ w0 w1 w2 w3 w4 w5 w6 w7 w8 w9 w10 w11 w12 w13 w14 w15 w16 w17).1 1092 = w5 := rfl
theorem sgX1_times_rzI1094 {σ : Sto} {w0 : Int32} {w1 : Int32} {w2 : Int32} {w3 : Int32} {w4 : Int32} {w5 : Int32} {w6 : Int32} {w7 : Int32} {w8 : Int64} {w9 : Nat → Int32} {w10 : Nat → Int32} {w11 : Nat → Int32} {w12 : Nat → Int32} {w13 : Nat → Int64} {w14 : Nat → Int64} {w15 : Nat → Int64} {w16 : Nat → Int64} {w17 : Nat → Int64} : (sgX1_times σ w0 w1 w2 w3 w4 w5 w6 w7 w8 w9 w10 w11 w12 w13 w14 w15 w16 w17).1 1094 = w6 := rfl
theorem sgX1_times_rzI1095 {σ : Sto} {w0 : Int32} {w1 : Int32} {w2 : Int32} {w3 : Int32} {w4 : Int32} {w5 : Int32} {w6 : Int32} {w7 : Int32} {w8 : Int64} {w9 : Nat → Int32} {w10 : Nat → Int32} {w11 : Nat → Int32} {w12 : Nat → Int32} {w13 : Nat → Int64} {w14 : Nat → Int64} {w15 : Nat → Int64} {w16 : Nat → Int64} {w17 : Nat → Int64} : (sgX1_times σ w0 w1 w2 w3 w4 w5 w6 w7 w8 w9 w10 w11 w12 w13 w14 w15 w16 w17).1 1095 = w7 := rfl
theorem sgX1_times_rzI1262 {σ : Sto} {w0 : Int32} {w1 : Int32} {w2 : Int32} {w3 : Int32} {w4 : Int32} {w5 : Int32} {w6 : Int32} {w7 : Int32} {w8 : Int64} {w9 : Nat → Int32} {w10 : Nat → Int32} {w11 : Nat → Int32} {w12 : Nat → Int32} {w13 : Nat → Int64} {w14 : Nat → Int64} {w15 : Nat → Int64} {w16 : Nat → Int64} {w17 : Nat → Int64} : (sgX1_times σ w0 w1 w2 w3 w4 w5 w6 w7 w8 w9 w10 w11 w12 w13 w14 w15 w16 w17).1 1262 = σ.1 1262 := rfl
theorem sgX1_times_rzI1485 {σ : Sto} {w0 : Int32} {w1 : Int32} {w2 : Int32} {w3 : Int32} {w4 : Int32} {w5 : Int32} {w6 : Int32} {w7 : Int32} {w8 : Int64} {w9 : Nat → Int32} {w10 : Nat → Int32} {w11 : Nat → Int32} {w12 : Nat → Int32} {w13 : Nat → Int64} {w14 : Nat → Int64} {w15 : Nat → Int64} {w16 : Nat → Int64} {w17 : Nat → Int64} : (sgX1_times σ w0 w1 w2 w3 w4 w5 w6 w7 w8 w9 w10 w11 w12 w13 w14 w15 w16 w17).1 1485 = σ.1 1485 := rfl
theorem sgX1_times_rzI2008 {σ : Sto} {w0 : Int32} {w1 : Int32} {w2 : Int32} {w3 : Int32} {w4 : Int32} {w5 : Int32} {w6 : Int32} {w7 : Int32} {w8 : Int64} {w9 : Nat → Int32} {w10 : Nat → Int32} {w11 : Nat → Int32} {w12 : Nat → Int32} {w13 : Nat → Int64} {w14 : Nat → Int64} {w15 : Nat → Int64} {w16 : Nat → Int64} {w17 : Nat → Int64} : (sgX1_times σ w0 w1 w2 w3 w4 w5 w6 w7 w8 w9 w10 w11 w12 w13 w14 w15 w16 w17).1 2008 = σ.1 2008 := rfl
theorem sgX1_times_rzI2009 {σ : Sto} {w0 : Int32} {w1 : Int32} {w2 : Int32} {w3 : Int32} {w4 : Int32} {w5 : Int32} {w6 : Int32} {w7 : Int32} {w8 : Int64} {w9 : Nat → Int32} {w10 : Nat → Int32} {w11 : Nat → Int32} {w12 : Nat → Int32} {w13 : Nat → Int64} {w14 : Nat → Int64} {w15 : Nat → Int64} {w16 : Nat → Int64} {w17 : Nat → Int64} : (sgX1_times σ w0 w1 w2 w3 w4 w5 w6 w7 w8 w9 w10 w11 w12 w13 w14 w15 w16 w17).1 2009 = σ.1 2009 := rfl
theorem sgX1_times_rzI2012 {σ : Sto} {w0 : Int32} {w1 : Int32} {w2 : Int32} {w3 : Int32} {w4 : Int32} {w5 : Int32} {w6 : Int32} {w7 : Int32} {w8 : Int64} {w9 : Nat → Int32} {w10 : Nat → Int32} {w11 : Nat → Int32} {w12 : Nat → Int32} {w13 : Nat → Int64} {w14 : Nat → Int64} {w15 : Nat → Int64} {w16 : Nat → Int64} {w17 : Nat → Int64} : (sgX1_times σ w0 w1 w2 w3 w4 w5 w6 w7 w8 w9 w10 w11 w12 w13 w14 w15 w16 w17).1 2012 = σ.1 2012 := rfl
theorem sgX1_times_rzI2013 {σ : Sto} {w0 : Int32} {w1 : Int32} {w2 : Int32} {w3 : Int32} {w4 : Int32} {w5 : Int32} {w6 : Int32} {w7 : Int32} {w8 : Int64} {w9 : Nat → Int32} {w10 : Nat → Int32} {w11 : Nat → Int32} {w12 : Nat → Int32} {w13 : Nat → Int64} {w14 : Nat → Int64} {w15 : Nat → Int64} {w16 : Nat → Int64} {w17 : Nat → Int64} : (sgX1_times σ w0 w1 w2 w3 w4 w5 w6 w7 w8 w9 w10 w11 w12 w13 w14 w15 w16 w17).1 2013 = σ.1 2013 := rfl
theorem sgX1_times_rzI2027 {σ : Sto} {w0 : Int32} {w1 : Int32} {w2 : Int32} {w3 : Int32} {w4 : Int32} {w5 : Int32} {w6 : Int32} {w7 : Int32} {w8 : Int64} {w9 : Nat → Int32} {w10 : Nat → Int32} {w11 : Nat → Int32} {w12 : Nat → Int32} {w13 : Nat → Int64} {w14 : Nat → Int64} {w15 : Nat → Int64} {w16 : Nat → Int64} {w17 : Nat → Int64} : (sgX1_times σ w0 w1 w2 w3 w4 w5 w6 w7 w8 w9 w10 w11 w12 w13 w14 w15 w16 w17).1 2027 = σ.1 2027 := rfl
theorem sgX1_times_rzI2032 {σ : Sto} {w0 : Int32} {w1 : Int32} {w2 : Int32} {w3 : Int32} {w4 : Int32} {w5 : Int32} {w6 : Int32} {w7 : Int32} {w8 : Int64} {w9 : Nat → Int32} {w10 : Nat → Int32} {w11 : Nat → Int32} {w12 : Nat → Int32} {w13 : Nat → Int64} {w14 : Nat → Int64} {w15 : Nat → Int64} {w16 : Nat → Int64} {w17 : Nat → Int64} : (sgX1_times σ w0 w1 w2 w3 w4 w5 w6 w7 w8 w9 w10 w11 w12 w13 w14 w15 w16 w17).1 2032 = σ.1 2032 := rfl
theorem sgX1_times_rzL1052 {σ : Sto} {w0 : Int32} {w1 : Int32} {w2 : Int32} {w3 : Int32} {w4 : Int32} {w5 : Int32} {w6 : Int32} {w7 : Int32} {w8 : Int64} {w9 : Nat → Int32} {w10 : Nat → Int32} {w11 : Nat → Int32} {w12 : Nat → Int32} {w13 : Nat → Int64} {w14 : Nat → Int64} {w15 : Nat → Int64} {w16 : Nat → Int64} {w17 : Nat → Int64} : (sgX1_times σ w0 w1 w2 w3 w4 w5 w6 w7 w8 w9 w10 w11 w12 w13 w14 w15 w16 w17).2.1 1052 = w8 := rfl
theorem sgX1_times_rzL1061 {σ : Sto} {w0 : Int32} {w1 : Int32} {w2 : Int32} {w3 : Int32} {w4 : Int32} {w5 : Int32} {w6 : Int32} {w7 : Int32} {w8 : Int64} {w9 : Nat → Int32} {w10 : Nat → Int32} {w11 : Nat → Int32} {w12 : Nat → Int32} {w13 : Nat → Int64} {w14 : Nat → Int64} {w15 : Nat → Int64} {w16 : Nat → Int64} {w17 : Nat → Int64} : (sgX1_times σ w0 w1 w2 w3 w4 w5 w6 w7 w8 w9 w10 w11 w12 w13 w14 w15 w16 w17).2.1 1061 = σ.2.1 1061 := rfl
theorem sgX1_times_rzL1081 {σ : Sto} {w0 : Int32} {w1 : Int32} {w2 : Int32} {w3 : Int32} {w4 : Int32} {w5 : Int32} {w6 : Int32} {w7 : Int32} {w8 : Int64} {w9 : Nat → Int32} {w10 : Nat → Int32} {w11 : Nat → Int32} {w12 : Nat → Int32} {w13 : Nat → Int64} {w14 : Nat → Int64} {w15 : Nat → Int64} {w16 : Nat → Int64} {w17 : Nat → Int64} : (sgX1_times σ w0 w1 w2 w3 w4 w5 w6 w7 w8 w9 w10 w11 w12 w13 w14 w15 w16 w17).2.1 1081 = σ.2.1 1081 := rfl
theorem sgX1_times_rzL1091 {σ : Sto} {w0 : Int32} {w1 : Int32} {w2 : Int32} {w3 : Int32} {w4 : Int32} {w5 : Int32} {w6 : Int32} {w7 : Int32} {w8 : Int64} {w9 : Nat → Int32} {w10 : Nat → Int32} {w11 : Nat → Int32} {w12 : Nat → Int32} {w13 : Nat → Int64} {w14 : Nat → Int64} {w15 : Nat → Int64} {w16 : Nat → Int64} {w17 : Nat → Int64} : (sgX1_times σ w0 w1 w2 w3 w4 w5 w6 w7 w8 w9 w10 w11 w12 w13 w14 w15 w16 w17).2.1 1091 = σ.2.1 1091 := rfl
theorem sgX1_times_raI1108 {σ : Sto} {w0 : Int32} {w1 : Int32} {w2 : Int32} {w3 : Int32} {w4 : Int32} {w5 : Int32} {w6 : Int32} {w7 : Int32} {w8 : Int64} {w9 : Nat → Int32} {w10 : Nat → Int32} {w11 : Nat → Int32} {w12 : Nat → Int32} {w13 : Nat → Int64} {w14 : Nat → Int64} {w15 : Nat → Int64} {w16 : Nat → Int64} {w17 : Nat → Int64} : (sgX1_times σ w0 w1 w2 w3 w4 w5 w6 w7 w8 w9 w10 w11 w12 w13 w14 w15 w16 w17).2.2.1 1108 = w9 := rfl
theorem sgX1_times_raI1160 {σ : Sto} {w0 : Int32} {w1 : Int32} {w2 : Int32} {w3 : Int32} {w4 : Int32} {w5 : Int32} {w6 : Int32} {w7 : Int32} {w8 : Int64} {w9 : Nat → Int32} {w10 : Nat → Int32} {w11 : Nat → Int32} {w12 : Nat → Int32} {w13 : Nat → Int64} {w14 : Nat → Int64} {w15 : Nat → Int64} {w16 : Nat → Int64} {w17 : Nat → Int64} : (sgX1_times σ w0 w1 w2 w3 w4 w5 w6 w7 w8 w9 w10 w11 w12 w13 w14 w15 w16 w17).2.2.1 1160 = w10 := rfl
theorem sgX1_times_raI1162 {σ : Sto} {w0 : Int32} {w1 : Int32} {w2 : Int32} {w3 : Int32} {w4 : Int32} {w5 : Int32} {w6 : Int32} {w7 : Int32} {w8 : Int64} {w9 : Nat → Int32} {w10 : Nat → Int32} {w11 : Nat → Int32} {w12 : Nat → Int32} {w13 : Nat → Int64} {w14 : Nat → Int64} {w15 : Nat → Int64} {w16 : Nat → Int64} {w17 : Nat → Int64} : (sgX1_times σ w0 w1 w2 w3 w4 w5 w6 w7 w8 w9 w10 w11 w12 w13 w14 w15 w16 w17).2.2.1 1162 = w11 := rfl
theorem sgX1_times_raI1163 {σ : Sto} {w0 : Int32} {w1 : Int32} {w2 : Int32} {w3 : Int32} {w4 : Int32} {w5 : Int32} {w6 : Int32} {w7 : Int32} {w8 : Int64} {w9 : Nat → Int32} {w10 : Nat → Int32} {w11 : Nat → Int32} {w12 : Nat → Int32} {w13 : Nat → Int64} {w14 : Nat → Int64} {w15 : Nat → Int64} {w16 : Nat → Int64} {w17 : Nat → Int64} : (sgX1_times σ w0 w1 w2 w3 w4 w5 w6 w7 w8 w9 w10 w11 w12 w13 w14 w15 w16 w17).2.2.1 1163 = w12 := rfl
theorem sgX1_times_raI1164 {σ : Sto} {w0 : Int32} {w1 : Int32} {w2 : Int32} {w3 : Int32} {w4 : Int32} {w5 : Int32} {w6 : Int32} {w7 : Int32} {w8 : Int64} {w9 : Nat → Int32} {w10 : Nat → Int32} {w11 : Nat → Int32} {w12 : Nat → Int32} {w13 : Nat → Int64} {w14 : Nat → Int64} {w15 : Nat → Int64} {w16 : Nat → Int64} {w17 : Nat → Int64} : (sgX1_times σ w0 w1 w2 w3 w4 w5 w6 w7 w8 w9 w10 w11 w12 w13 w14 w15 w16 w17).2.2.1 1164 = σ.2.2.1 1164 := rfl
theorem sgX1_times_raI1170 {σ : Sto} {w0 : Int32} {w1 : Int32} {w2 : Int32} {w3 : Int32} {w4 : Int32} {w5 : Int32} {w6 : Int32} {w7 : Int32} {w8 : Int64} {w9 : Nat → Int32} {w10 : Nat → Int32} {w11 : Nat → Int32} {w12 : Nat → Int32} {w13 : Nat → Int64} {w14 : Nat → Int64} {w15 : Nat → Int64} {w16 : Nat → Int64} {w17 : Nat → Int64} : (sgX1_times σ w0 w1 w2 w3 w4 w5 w6 w7 w8 w9 w10 w11 w12 w13 w14 w15 w16 w17).2.2.1 1170 = σ.2.2.1 1170 := rfl
theorem sgX1_times_raI1265 {σ : Sto} {w0 : Int32} {w1 : Int32} {w2 : Int32} {w3 : Int32} {w4 : Int32} {w5 : Int32} {w6 : Int32} {w7 : Int32} {w8 : Int64} {w9 : Nat → Int32} {w10 : Nat → Int32} {w11 : Nat → Int32} {w12 : Nat → Int32} {w13 : Nat → Int64} {w14 : Nat → Int64} {w15 : Nat → Int64} {w16 : Nat → Int64} {w17 : Nat → Int64} : (sgX1_times σ w0 w1 w2 w3 w4 w5 w6 w7 w8 w9 w10 w11 w12 w13 w14 w15 w16 w17).2.2.1 1265 = σ.2.2.1 1265 := rfl
theorem sgX1_times_raI2036 {σ : Sto} {w0 : Int32} {w1 : Int32} {w2 : Int32} {w3 : Int32} {w4 : Int32} {w5 : Int32} {w6 : Int32} {w7 : Int32} {w8 : Int64} {w9 : Nat → Int32} {w10 : Nat → Int32} {w11 : Nat → Int32} {w12 : Nat → Int32} {w13 : Nat → Int64} {w14 : Nat → Int64} {w15 : Nat → Int64} {w16 : Nat → Int64} {w17 : Nat → Int64} : (sgX1_times σ w0 w1 w2 w3 w4 w5 w6 w7 w8 w9 w10 w11 w12 w13 w14 w15 w16 w17).2.2.1 2036 = σ.2.2.1 2036 := rfl
theorem sgX1_times_raI2037 {σ : Sto} {w0 : Int32} {w1 : Int32} {w2 : Int32} {w3 : Int32} {w4 : Int32} {w5 : Int32} {w6 : Int32} {w7 : Int32} {w8 : Int64} {w9 : Nat → Int32} {w10 : Nat → Int32} {w11 : Nat → Int32} {w12 : Nat → Int32} {w13 : Nat → Int64} {w14 : Nat → Int64} {w15 : Nat → Int64} {w16 : Nat → Int64} {w17 : Nat → Int64} : (sgX1_times σ w0 w1 w2 w3 w4 w5 w6 w7 w8 w9 w10 w11 w12 w13 w14 w15 w16 w17).2.2.1 2037 = σ.2.2.1 2037 := rfl
theorem sgX1_times_raI2042 {σ : Sto} {w0 : Int32} {w1 : Int32} {w2 : Int32} {w3 : Int32} {w4 : Int32} {w5 : Int32} {w6 : Int32} {w7 : Int32} {w8 : Int64} {w9 : Nat → Int32} {w10 : Nat → Int32} {w11 : Nat → Int32} {w12 : Nat → Int32} {w13 : Nat → Int64} {w14 : Nat → Int64} {w15 : Nat → Int64} {w16 : Nat → Int64} {w17 : Nat → Int64} : (sgX1_times σ w0 w1 w2 w3 w4 w5 w6 w7 w8 w9 w10 w11 w12 w13 w14 w15 w16 w17).2.2.1 2042 = σ.2.2.1 2042 := rfl
theorem sgX1_times_raI2043 {σ : Sto} {w0 : Int32} {w1 : Int32} {w2 : Int32} {w3 : Int32} {w4 : Int32} {w5 : Int32} {w6 : Int32} {w7 : Int32} {w8 : Int64} {w9 : Nat → Int32} {w10 : Nat → Int32} {w11 : Nat → Int32} {w12 : Nat → Int32} {w13 : Nat → Int64} {w14 : Nat → Int64} {w15 : Nat → Int64} {w16 : Nat → Int64} {w17 : Nat → Int64} : (sgX1_times σ w0 w1 w2 w3 w4 w5 w6 w7 w8 w9 w10 w11 w12 w13 w14 w15 w16 w17).2.2.1 2043 = σ.2.2.1 2043 := rfl
theorem sgX1_times_raL1140 {σ : Sto} {w0 : Int32} {w1 : Int32} {w2 : Int32} {w3 : Int32} {w4 : Int32} {w5 : Int32} {w6 : Int32} {w7 : Int32} {w8 : Int64} {w9 : Nat → Int32} {w10 : Nat → Int32} {w11 : Nat → Int32} {w12 : Nat → Int32} {w13 : Nat → Int64} {w14 : Nat → Int64} {w15 : Nat → Int64} {w16 : Nat → Int64} {w17 : Nat → Int64} : (sgX1_times σ w0 w1 w2 w3 w4 w5 w6 w7 w8 w9 w10 w11 w12 w13 w14 w15 w16 w17).2.2.2.1 1140 = w13 := rfl
theorem sgX1_times_raL1141 {σ : Sto} {w0 : Int32} {w1 : Int32} {w2 : Int32} {w3 : Int32} {w4 : Int32} {w5 : Int32} {w6 : Int32} {w7 : Int32} {w8 : Int64} {w9 : Nat → Int32} {w10 : Nat → Int32} {w11 : Nat → Int32} {w12 : Nat → Int32} {w13 : Nat → Int64} {w14 : Nat → Int64} {w15 : Nat → Int64} {w16 : Nat → Int64} {w17 : Nat → Int64} : (sgX1_times σ w0 w1 w2 w3 w4 w5 w6 w7 w8 w9 w10 w11 w12 w13 w14 w15 w16 w17).2.2.2.1 1141 = w14 := rfl
theorem sgX1_times_raL1150 {σ : Sto} {w0 : Int32} {w1 : Int32} {w2 : Int32} {w3 : Int32} {w4 : Int32} {w5 : Int32} {w6 : Int32} {w7 : Int32} {w8 : Int64} {w9 : Nat → Int32} {w10 : Nat → Int32} {w11 : Nat → Int32} {w12 : Nat → Int32} {w13 : Nat → Int64} {w14 : Nat → Int64} {w15 : Nat → Int64} {w16 : Nat → Int64} {w17 : Nat → Int64} : (sgX1_times σ w0 w1 w2 w3 w4 w5 w6 w7 w8 w9 w10 w11 w12 w13 w14 w15 w16 w17).2.2.2.1 1150 = w15 := rfl
theorem sgX1_times_raL1152 {σ : Sto} {w0 : Int32} {w1 : Int32} {w2 : Int32} {w3 : Int32} {w4 : Int32} {w5 : Int32} {w6 : Int32} {w7 : Int32} {w8 : Int64} {w9 : Nat → Int32} {w10 : Nat → Int32} {w11 : Nat → Int32} {w12 : Nat → Int32} {w13 : Nat → Int64} {w14 : Nat → Int64} {w15 : Nat → Int64} {w16 : Nat → Int64} {w17 : Nat → Int64} : (sgX1_times σ w0 w1 w2 w3 w4 w5 w6 w7 w8 w9 w10 w11 w12 w13 w14 w15 w16 w17).2.2.2.1 1152 = w16 := rfl
theorem sgX1_times_raL1153 {σ : Sto} {w0 : Int32} {w1 : Int32} {w2 : Int32} {w3 : Int32} {w4 : Int32} {w5 : Int32} {w6 : Int32} {w7 : Int32} {w8 : Int64} {w9 : Nat → Int32} {w10 : Nat → Int32} {w11 : Nat → Int32} {w12 : Nat → Int32} {w13 : Nat → Int64} {w14 : Nat → Int64} {w15 : Nat → Int64} {w16 : Nat → Int64} {w17 : Nat → Int64} : (sgX1_times σ w0 w1 w2 w3 w4 w5 w6 w7 w8 w9 w10 w11 w12 w13 w14 w15 w16 w17).2.2.2.1 1153 = w17 := rfl
theorem sgX1_times_rpR2 {σ : Sto} {w0 : Int32} {w1 : Int32} {w2 : Int32} {w3 : Int32} {w4 : Int32} {w5 : Int32} {w6 : Int32} {w7 : Int32} {w8 : Int64} {w9 : Nat → Int32} {w10 : Nat → Int32} {w11 : Nat → Int32} {w12 : Nat → Int32} {w13 : Nat → Int64} {w14 : Nat → Int64} {w15 : Nat → Int64} {w16 : Nat → Int64} {w17 : Nat → Int64} : (fun k => (sgX1_times σ w0 w1 w2 w3 w4 w5 w6 w7 w8 w9 w10 w11 w12 w13 w14 w15 w16 w17).1 (6000 + 16 * k + 2)) = (fun k => σ.1 (6000 + 16 * k + 2)) := by
  funext k
  unfold sgX1_times
  dsimp only [zI, zL, aI, aL]
  repeat rw [if_neg (by omega)]
theorem sgX1_times_rpR3 {σ : Sto} {w0 : Int32} {w1 : Int32} {w2 : Int32} {w3 : Int32} {w4 : Int32} {w5 : Int32} {w6 : Int32} {w7 : Int32} {w8 : Int64} {w9 : Nat → Int32} {w10 : Nat → Int32} {w11 : Nat → Int32} {w12 : Nat → Int32} {w13 : Nat → Int64} {w14 : Nat → Int64} {w15 : Nat → Int64} {w16 : Nat → Int64} {w17 : Nat → Int64} : (fun k => (sgX1_times σ w0 w1 w2 w3 w4 w5 w6 w7 w8 w9 w10 w11 w12 w13 w14 w15 w16 w17).1 (6000 + 16 * k + 3)) = (fun k => σ.1 (6000 + 16 * k + 3)) := by
  funext k
  unfold sgX1_times
  dsimp only [zI, zL, aI, aL]
  repeat rw [if_neg (by omega)]
theorem sgX1_times_rpR4 {σ : Sto} {w0 : Int32} {w1 : Int32} {w2 : Int32} {w3 : Int32} {w4 : Int32} {w5 : Int32} {w6 : Int32} {w7 : Int32} {w8 : Int64} {w9 : Nat → Int32} {w10 : Nat → Int32} {w11 : Nat → Int32} {w12 : Nat → Int32} {w13 : Nat → Int64} {w14 : Nat → Int64} {w15 : Nat → Int64} {w16 : Nat → Int64} {w17 : Nat → Int64} : (fun k => (sgX1_times σ w0 w1 w2 w3 w4 w5 w6 w7 w8 w9 w10 w11 w12 w13 w14 w15 w16 w17).1 (6000 + 16 * k + 4)) = (fun k => σ.1 (6000 + 16 * k + 4)) := by
  funext k
  unfold sgX1_times
  dsimp only [zI, zL, aI, aL]
  repeat rw [if_neg (by omega)]
theorem sgX1_times_rpR5 {σ : Sto} {w0 : Int32} {w1 : Int32} {w2 : Int32} {w3 : Int32} {w4 : Int32} {w5 : Int32} {w6 : Int32} {w7 : Int32} {w8 : Int64} {w9 : Nat → Int32} {w10 : Nat → Int32} {w11 : Nat → Int32} {w12 : Nat → Int32} {w13 : Nat → Int64} {w14 : Nat → Int64} {w15 : Nat → Int64} {w16 : Nat → Int64} {w17 : Nat → Int64} : (fun k => (sgX1_times σ w0 w1 w2 w3 w4 w5 w6 w7 w8 w9 w10 w11 w12 w13 w14 w15 w16 w17).1 (6000 + 16 * k + 5)) = (fun k => σ.1 (6000 + 16 * k + 5)) := by
  funext k
  unfold sgX1_times
  dsimp only [zI, zL, aI, aL]
  repeat rw [if_neg (by omega)]
theorem sgX1_times_rpR6 {σ : Sto} {w0 : Int32} {w1 : Int32} {w2 : Int32} {w3 : Int32} {w4 : Int32} {w5 : Int32} {w6 : Int32} {w7 : Int32} {w8 : Int64} {w9 : Nat → Int32} {w10 : Nat → Int32} {w11 : Nat → Int32} {w12 : Nat → Int32} {w13 : Nat → Int64} {w14 : Nat → Int64} {w15 : Nat → Int64} {w16 : Nat → Int64} {w17 : Nat → Int64} : (fun k => (sgX1_times σ w0 w1 w2 w3 w4 w5 w6 w7 w8 w9 w10 w11 w12 w13 w14 w15 w16 w17).1 (6000 + 16 * k + 6)) = (fun k => σ.1 (6000 + 16 * k + 6)) := by
  funext k
  unfold sgX1_times
  dsimp only [zI, zL, aI, aL]
  repeat rw [if_neg (by omega)]
theorem sgX1_times_rpW0 {σ : Sto} {w0 : Int32} {w1 : Int32} {w2 : Int32} {w3 : Int32} {w4 : Int32} {w5 : Int32} {w6 : Int32} {w7 : Int32} {w8 : Int64} {w9 : Nat → Int32} {w10 : Nat → Int32} {w11 : Nat → Int32} {w12 : Nat → Int32} {w13 : Nat → Int64} {w14 : Nat → Int64} {w15 : Nat → Int64} {w16 : Nat → Int64} {w17 : Nat → Int64} : (fun k => (sgX1_times σ w0 w1 w2 w3 w4 w5 w6 w7 w8 w9 w10 w11 w12 w13 w14 w15 w16 w17).1 (8000 + 16 * k + 0)) = (fun k => σ.1 (8000 + 16 * k + 0)) := by
  funext k
  unfold sgX1_times
  dsimp only [zI, zL, aI, aL]
  repeat rw [if_neg (by omega)]
theorem sgX1_times_rpW1 {σ : Sto} {w0 : Int32} {w1 : Int32} {w2 : Int32} {w3 : Int32} {w4 : Int32} {w5 : Int32} {w6 : Int32} {w7 : Int32} {w8 : Int64} {w9 : Nat → Int32} {w10 : Nat → Int32} {w11 : Nat → Int32} {w12 : Nat → Int32} {w13 : Nat → Int64} {w14 : Nat → Int64} {w15 : Nat → Int64} {w16 : Nat → Int64} {w17 : Nat → Int64} : (fun k => (sgX1_times σ w0 w1 w2 w3 w4 w5 w6 w7 w8 w9 w10 w11 w12 w13 w14 w15 w16 w17).1 (8000 + 16 * k + 1)) = (fun k => σ.1 (8000 + 16 * k + 1)) := by
  funext k
  unfold sgX1_times
  dsimp only [zI, zL, aI, aL]
  repeat rw [if_neg (by omega)]
theorem sgX1_times_rpW2 {σ : Sto} {w0 : Int32} {w1 : Int32} {w2 : Int32} {w3 : Int32} {w4 : Int32} {w5 : Int32} {w6 : Int32} {w7 : Int32} {w8 : Int64} {w9 : Nat → Int32} {w10 : Nat → Int32} {w11 : Nat → Int32} {w12 : Nat → Int32} {w13 : Nat → Int64} {w14 : Nat → Int64} {w15 : Nat → Int64} {w16 : Nat → Int64} {w17 : Nat → Int64} : (fun k => (sgX1_times σ w0 w1 w2 w3 w4 w5 w6 w7 w8 w9 w10 w11 w12 w13 w14 w15 w16 w17).1 (8000 + 16 * k + 2)) = (fun k => σ.1 (8000 + 16 * k + 2)) := by
  funext k
  unfold sgX1_times
  dsimp only [zI, zL, aI, aL]
  repeat rw [if_neg (by omega)]
theorem sgX1_times_rpU0 {σ : Sto} {w0 : Int32} {w1 : Int32} {w2 : Int32} {w3 : Int32} {w4 : Int32} {w5 : Int32} {w6 : Int32} {w7 : Int32} {w8 : Int64} {w9 : Nat → Int32} {w10 : Nat → Int32} {w11 : Nat → Int32} {w12 : Nat → Int32} {w13 : Nat → Int64} {w14 : Nat → Int64} {w15 : Nat → Int64} {w16 : Nat → Int64} {w17 : Nat → Int64} : (fun k => (sgX1_times σ w0 w1 w2 w3 w4 w5 w6 w7 w8 w9 w10 w11 w12 w13 w14 w15 w16 w17).1 (10000 + 16 * k + 0)) = (fun k => σ.1 (10000 + 16 * k + 0)) := by
  funext k
  unfold sgX1_times
  dsimp only [zI, zL, aI, aL]
  repeat rw [if_neg (by omega)]
theorem sgX1_times_rpU1 {σ : Sto} {w0 : Int32} {w1 : Int32} {w2 : Int32} {w3 : Int32} {w4 : Int32} {w5 : Int32} {w6 : Int32} {w7 : Int32} {w8 : Int64} {w9 : Nat → Int32} {w10 : Nat → Int32} {w11 : Nat → Int32} {w12 : Nat → Int32} {w13 : Nat → Int64} {w14 : Nat → Int64} {w15 : Nat → Int64} {w16 : Nat → Int64} {w17 : Nat → Int64} : (fun k => (sgX1_times σ w0 w1 w2 w3 w4 w5 w6 w7 w8 w9 w10 w11 w12 w13 w14 w15 w16 w17).1 (10000 + 16 * k + 1)) = (fun k => σ.1 (10000 + 16 * k + 1)) := by
  funext k
  unfold sgX1_times
  dsimp only [zI, zL, aI, aL]
  repeat rw [if_neg (by omega)]
theorem sgX1_times_rpU2 {σ : Sto} {w0 : Int32} {w1 : Int32} {w2 : Int32} {w3 : Int32} {w4 : Int32} {w5 : Int32} {w6 : Int32} {w7 : Int32} {w8 : Int64} {w9 : Nat → Int32} {w10 : Nat → Int32} {w11 : Nat → Int32} {w12 : Nat → Int32} {w13 : Nat → Int64} {w14 : Nat → Int64} {w15 : Nat → Int64} {w16 : Nat → Int64} {w17 : Nat → Int64} : (fun k => (sgX1_times σ w0 w1 w2 w3 w4 w5 w6 w7 w8 w9 w10 w11 w12 w13 w14 w15 w16 w17).1 (10000 + 16 * k + 2)) = (fun k => σ.1 (10000 + 16 * k + 2)) := by
  funext k
  unfold sgX1_times
  dsimp only [zI, zL, aI, aL]
  repeat rw [if_neg (by omega)]
theorem sgX1_times_rpU3 {σ : Sto} {w0 : Int32} {w1 : Int32} {w2 : Int32} {w3 : Int32} {w4 : Int32} {w5 : Int32} {w6 : Int32} {w7 : Int32} {w8 : Int64} {w9 : Nat → Int32} {w10 : Nat → Int32} {w11 : Nat → Int32} {w12 : Nat → Int32} {w13 : Nat → Int64} {w14 : Nat → Int64} {w15 : Nat → Int64} {w16 : Nat → Int64} {w17 : Nat → Int64} : (fun k => (sgX1_times σ w0 w1 w2 w3 w4 w5 w6 w7 w8 w9 w10 w11 w12 w13 w14 w15 w16 w17).1 (10000 + 16 * k + 3)) = (fun k => σ.1 (10000 + 16 * k + 3)) := by
  funext k
  unfold sgX1_times
  dsimp only [zI, zL, aI, aL]
  repeat rw [if_neg (by omega)]
theorem sgX1_times_rgG0 {σ : Sto} {w0 : Int32} {w1 : Int32} {w2 : Int32} {w3 : Int32} {w4 : Int32} {w5 : Int32} {w6 : Int32} {w7 : Int32} {w8 : Int64} {w9 : Nat → Int32} {w10 : Nat → Int32} {w11 : Nat → Int32} {w12 : Nat → Int32} {w13 : Nat → Int64} {w14 : Nat → Int64} {w15 : Nat → Int64} {w16 : Nat → Int64} {w17 : Nat → Int64} : (fun k => (sgX1_times σ w0 w1 w2 w3 w4 w5 w6 w7 w8 w9 w10 w11 w12 w13 w14 w15 w16 w17).2.2.1 (4000 + 16 * k)) = (fun k => σ.2.2.1 (4000 + 16 * k)) := by
  funext k
  unfold sgX1_times
  dsimp only [zI, zL, aI, aL]
  repeat rw [if_neg (by omega)]
abbrev rmX1_times : Room := { frames := 52, cells := 0, slots := 0, locals := 1410 }
set_option maxHeartbeats 4000000 in
theorem wkX1_times {x1 : Int32} {x2 : Int32} {r_ : Int32} {w_zI1018 : Int32} {w_zI1019 : Int32} {w_zI1020 : Int32} {w_zI1062 : Int32} {w_zI1082 : Int32} {w_zI1092 : Int32} {w_zI1094 : Int32} {w_zI1095 : Int32} {w_zL1052 : Int64} {w_aI1108 : Nat → Int32} {w_aI1160 : Nat → Int32} {w_aI1162 : Nat → Int32} {w_aI1163 : Nat → Int32} {w_aL1140 : Nat → Int64} {w_aL1141 : Nat → Int64} {w_aL1150 : Nat → Int64} {w_aL1152 : Nat → Int64} {w_aL1153 : Nat → Int64} (E : EN p s m args meth c0 RX1 cX1_times 8 (Option.some Jvm.ClassFile.FieldType.int)) (hX : KX D G ad A s s.heap) (hD : XD dsc nr nw nu) (hA : ∀ q, PA dsc ad s.heap.size q → A q) (hf : xo_X1_times (σ.1 1018) (σ.1 1019) (σ.1 1020) (σ.1 1062) (σ.1 1082) (σ.1 1092) (σ.1 1094) (σ.1 1095) (σ.1 1262) (σ.1 1485) (σ.1 2008) (σ.1 2009) (σ.1 2012) (σ.1 2013) (σ.1 2027) (σ.1 2032) (σ.2.1 1052) (σ.2.1 1061) (σ.2.1 1081) (σ.2.1 1091) (σ.2.2.1 1108) (σ.2.2.1 1160) (σ.2.2.1 1162) (σ.2.2.1 1163) (σ.2.2.1 1164) (σ.2.2.1 1170) (σ.2.2.1 1265) (σ.2.2.1 2036) (σ.2.2.1 2037) (σ.2.2.1 2042) (σ.2.2.1 2043) (σ.2.2.2.1 1140) (σ.2.2.2.1 1141) (σ.2.2.2.1 1150) (σ.2.2.2.1 1152) (σ.2.2.2.1 1153) nr nw nu (fun k => σ.1 (6000 + 16 * k + 2)) (fun k => σ.1 (6000 + 16 * k + 3)) (fun k => σ.1 (6000 + 16 * k + 4)) (fun k => σ.1 (6000 + 16 * k + 5)) (fun k => σ.1 (6000 + 16 * k + 6)) (fun k => σ.1 (8000 + 16 * k + 0)) (fun k => σ.1 (8000 + 16 * k + 1)) (fun k => σ.1 (8000 + 16 * k + 2)) (fun k => σ.1 (10000 + 16 * k + 0)) (fun k => σ.1 (10000 + 16 * k + 1)) (fun k => σ.1 (10000 + 16 * k + 2)) (fun k => σ.1 (10000 + 16 * k + 3)) (fun k => σ.2.2.1 (4000 + 16 * k)) x1 x2 = some (r_, w_zI1018, w_zI1019, w_zI1020, w_zI1062, w_zI1082, w_zI1092, w_zI1094, w_zI1095, w_zL1052, w_aI1108, w_aI1160, w_aI1162, w_aI1163, w_aL1140, w_aL1141, w_aL1150, w_aL1152, w_aL1153)) (hQ : Q = MQ below (va_G1 (some (.int r_)) (fun t => PIC D clsA G dsc ad (sgX1_times σ w_zI1018 w_zI1019 w_zI1020 w_zI1062 w_zI1082 w_zI1092 w_zI1094 w_zI1095 w_zL1052 w_aI1108 w_aI1160 w_aI1162 w_aI1163 w_aL1140 w_aL1141 w_aL1150 w_aL1152 w_aL1153) t.heap) A) args s 0 0 A) (hP : PIC D clsA G dsc ad σ H) (hS : va_S A s.heap H locs) (hl : lv_has ls 8 [(0, .ref (ad 1000)), (1, .int x1), (2, .int x2)]) : W p l e rmX1_times s m args below meth c0 H locs 0 0 Q (F0 m 0 ls []) := by
  obtain ⟨⟨hx, hb, hml, hown, hts⟩, hr, hlk⟩ := id E
  have hP := hP.to (sgX1_times_self σ).symm
  unfold xo_X1_times at hf
  refine lv_aload_n hx hb dX1_times_0 rfl (lv_at hl 0 rfl) ?_
  refine lv_iload_n hx hb dX1_times_1 rfl (lv_at hl 1 rfl) ?_
  obtain ⟨v1, u2, hf⟩ := bdP hf
  refine cx_X1_315_X1_isPlan E hX hD hP hS hA (kxX1_isPlan l D G hD sgX1_times_rzI2012 sgX1_times_rzI2013 u2) ⟨rfl, rfl⟩ ⟨Nat.le_of_ble_eq_true rfl, Nat.le_of_ble_eq_true rfl⟩ ⟨Nat.zero_le _, Nat.zero_le _⟩ hl.1 (Nat.le_of_ble_eq_true rfl) dX1_times_2 (fun H locs hP hS => ?_)
  refine lv_if_eq (tgt := 17) hx hb dX1_times_5 (by decide) (fun c3 => ?_) (fun c3 => ?_)
  · have hf := ifT c3 hf
    refine lv_iconst hx hb dX1_times_17 ic_m1 ?_
    cases hf
    rw [hQ]; exact g_iret hx hb hr hlk hP hS dX1_times_18
  · have hf := ifF c3 hf
    refine lv_iload_n hx hb dX1_times_8 rfl (lv_at hl 2 rfl) ?_
    refine lv_iconst hx hb dX1_times_9 ic_0 ?_
    refine lv_iconst hx hb dX1_times_10 ic_1 ?_
    obtain ⟨v4, u5, hf⟩ := bdP hf
    refine cx_X1_143_X1_in E hX hD hP hS hA (kxX1_in l D G hD u5) ⟨rfl, rfl⟩ ⟨Nat.le_of_ble_eq_true rfl, Nat.le_of_ble_eq_true rfl⟩ ⟨Nat.zero_le _, Nat.zero_le _⟩ hl.1 (Nat.le_of_ble_eq_true rfl) dX1_times_11 (fun H locs hP hS => ?_)
    refine lv_if_ne (tgt := 19) hx hb dX1_times_14 (by decide) (fun c6 => ?_) (fun c6 => ?_)
    · have hf := ifF c6 hf
      refine lv_aload_n hx hb dX1_times_19 rfl (lv_at hl 0 rfl) ?_
      refine lv_iload_n hx hb dX1_times_20 rfl (lv_at hl 1 rfl) ?_
      obtain ⟨⟨v7, z8, z9, z10, z11, z12, z13, z14, z15, z16, a17, a18, a19, a20, a21, a22, a23⟩, u24, hf⟩ := bdP hf
      dsimp only at hf
      refine cx_X1_318_X1_plan E hX hD hP hS hA (kxX1_plan l D G hD sgX1_times_rzI1018 sgX1_times_rzI1019 sgX1_times_rzI1020 sgX1_times_rzI1062 sgX1_times_rzI1082 sgX1_times_rzI1092 sgX1_times_rzI1094 sgX1_times_rzI1095 sgX1_times_rzI2008 sgX1_times_rzI2009 sgX1_times_rzI2012 sgX1_times_rzI2013 sgX1_times_rzI2027 sgX1_times_rzI2032 sgX1_times_rzL1052 sgX1_times_rzL1061 sgX1_times_rzL1081 sgX1_times_rzL1091 sgX1_times_raI1108 sgX1_times_raI1162 sgX1_times_raI1170 sgX1_times_raI2036 sgX1_times_raI2037 sgX1_times_raI2042 sgX1_times_raI2043 sgX1_times_raL1140 sgX1_times_raL1141 sgX1_times_raL1150 sgX1_times_raL1152 sgX1_times_raL1153 rfl rfl sgX1_times_rpR2 sgX1_times_rpR3 sgX1_times_rpR4 sgX1_times_rpR5 sgX1_times_rpR6 sgX1_times_rpW0 sgX1_times_rpW1 sgX1_times_rpW2 sgX1_times_rgG0 u24) ⟨rfl, rfl⟩ ⟨Nat.le_of_ble_eq_true rfl, Nat.le_of_ble_eq_true rfl⟩ ⟨Nat.zero_le _, Nat.zero_le _⟩ hl.1 (Nat.le_of_ble_eq_true rfl) dX1_times_21 (fun H locs hP hS => ?_)
      rw [sgX1_times_zI1018, sgX1_times_zI1019, sgX1_times_zI1020, sgX1_times_zI1062, sgX1_times_zI1082, sgX1_times_zI1092, sgX1_times_zI1094, sgX1_times_zI1095, sgX1_times_zL1052, sgX1_times_aI1108, sgX1_times_aI1162, sgX1_times_aL1140, sgX1_times_aL1141, sgX1_times_aL1150, sgX1_times_aL1152, sgX1_times_aL1153] at hP
      refine r_astore_n (lv' := [(3, va_rf (drf ad 1400 v7)), (0, .ref (ad 1000)), (1, .int x1), (2, .int x2)]) hx hb dX1_times_24 rfl hl (by decide) rfl (fun ls hl => ?_)
      refine r_aload_n hx hb dX1_times_25 rfl (lv_at hl 0 rfl) ?_
      refine r_ifnonnull (tgt := 32) hx hb dX1_times_26 (by decide) (fun c25 => ?_) (fun c25 => ?_)
      · have hf := ifT c25 hf
        refine lv_bipush hx hb dX1_times_29 bp_m2 ?_
        cases hf
        rw [hQ]; exact g_iret hx hb hr hlk hP hS dX1_times_31
      · have hf := ifF c25 hf
        refine lv_iconst hx hb dX1_times_32 ic_0 ?_
        refine lv_istore (i := 4) (lv' := [(4, .int 0), (3, va_rf (drf ad 1400 v7)), (0, .ref (ad 1000)), (1, .int x1), (2, .int x2)]) hx hb dX1_times_33 hl (by decide) (by simp [List.filter_cons, rf_cat]) (fun ls hl => ?_)
        refine lv_iconst hx hb dX1_times_35 ic_0 ?_
        refine lv_istore (lv' := [(5, .int 0), (4, .int 0), (3, va_rf (drf ad 1400 v7)), (0, .ref (ad 1000)), (1, .int x1), (2, .int x2)]) hx hb dX1_times_36 hl (by decide) rfl (fun ls hl => ?_)
        refine lv_iconst hx hb dX1_times_38 ic_0 ?_
        refine lv_istore (lv' := [(6, .int 0), (5, .int 0), (4, .int 0), (3, va_rf (drf ad 1400 v7)), (0, .ref (ad 1000)), (1, .int x1), (2, .int x2)]) hx hb dX1_times_39 hl (by decide) rfl (fun ls hl => ?_)
        have LP41 : ∀ (st41 : Int32 × Int32 × Int32 × (Nat → Int32) × (Nat → Int32) × (Nat → Int32)) (ex41 : ((Nat → Int32) × (Nat → Int32) × (Nat → Int32)) ⊕ (Int32 × Int32 × (Nat → Int32) × (Nat → Int32) × (Nat → Int32))), loop (xo_X1_times_L41 (σ.1 1262) (σ.1 1485) (σ.1 2008) (σ.1 2012) (σ.1 2013) (σ.1 2027) (σ.1 2032) (σ.2.1 1061) (σ.2.1 1081) (σ.2.1 1091) (σ.2.2.1 1164) (σ.2.2.1 1170) (σ.2.2.1 1265) (σ.2.2.1 2037) (σ.2.2.1 2043) nr nw nu (fun k => σ.1 (6000 + 16 * k + 2)) (fun k => σ.1 (6000 + 16 * k + 5)) (fun k => σ.1 (6000 + 16 * k + 6)) (fun k => σ.1 (8000 + 16 * k + 0)) (fun k => σ.1 (8000 + 16 * k + 1)) (fun k => σ.1 (8000 + 16 * k + 2)) (fun k => σ.1 (10000 + 16 * k + 0)) (fun k => σ.1 (10000 + 16 * k + 1)) (fun k => σ.1 (10000 + 16 * k + 2)) (fun k => σ.1 (10000 + 16 * k + 3)) (fun k => σ.2.2.1 (4000 + 16 * k)) v7 z11 z12 z13 z14 z15 a17 a19 a20 a21 a22 a23) st41 = some ex41 → ∀ (H : Heap) (locs : List Loc), PIC D clsA G dsc ad (sgX1_times σ z8 z9 z10 z11 z12 z13 z14 z15 z16 a17 (st41.2.2.2.1) (st41.2.2.2.2.1) (st41.2.2.2.2.2) a19 a20 a21 a22 a23) H → va_S A s.heap H locs → ∀ (ls : Array Slot), lv_has ls 8 [(0, .ref (ad 1000)), (2, .int x2), (3, va_rf (drf ad 1400 v7)), (4, .int (st41.1)), (5, .int (st41.2.1)), (6, .int (st41.2.2.1))] → (∀ (a55 : Nat → Int32) (a56 : Nat → Int32) (a57 : Nat → Int32), ex41 = (.inl ((a55, a56, a57))) → ∀ (H : Heap) (locs : List Loc), PIC D clsA G dsc ad (sgX1_times σ z8 z9 z10 z11 z12 z13 z14 z15 z16 a17 a55 a56 a57 a19 a20 a21 a22 a23) H → va_S A s.heap H locs → ∀ (ls : Array Slot), lv_has ls 8 [] → W p l e rmX1_times s m args below meth c0 H locs 0 0 Q (F0 m 98 ls [])) → (∀ (y58 : Int32) (y59 : Int32) (a60 : Nat → Int32) (a61 : Nat → Int32) (a62 : Nat → Int32), ex41 = (.inr (y58, y59, a60, a61, a62)) → ∀ (H : Heap) (locs : List Loc), PIC D clsA G dsc ad (sgX1_times σ z8 z9 z10 z11 z12 z13 z14 z15 z16 a17 a60 a61 a62 a19 a20 a21 a22 a23) H → va_S A s.heap H locs → ∀ (ls : Array Slot), lv_has ls 8 [(2, .int x2), (4, .int y58), (5, .int y59)] → W p l e rmX1_times s m args below meth c0 H locs 0 0 Q (F0 m 151 ls [])) → W p l e rmX1_times s m args below meth c0 H locs 0 0 Q (F0 m 41 ls []) := by
          refine loop_P (fun st41 ex41 o41 hf ih41 hx41 => ?_)
          obtain ⟨y26, y27, y28, a29, a30, a31⟩ := st41
          intro H locs (hP : PIC D clsA G dsc ad (sgX1_times σ z8 z9 z10 z11 z12 z13 z14 z15 z16 a17 a29 a30 a31 a19 a20 a21 a22 a23) H) hS ls (hl : lv_has ls 8 [(0, .ref (ad 1000)), (2, .int x2), (3, va_rf (drf ad 1400 v7)), (4, .int y26), (5, .int y27), (6, .int y28)]) KE41_0 KE41_1
          dsimp only [xo_X1_times_L41] at hf
          refine lv_iload hx hb dX1_times_41 (lv_at hl 5 rfl) ?_
          refine lv_aload_n hx hb dX1_times_43 rfl (lv_at hl 0 rfl) ?_
          refine gx_X1_33_1000 E hX hD hP dX1_times_44 ?_
          obtain ⟨v32, u33, hf⟩ := bdP hf
          refine cx_X1_239_X3_worlds E hX hD hP hS hA (kxX3_worlds l D G hD sgX1_times_rzI2027 u33) ⟨rfl, rfl⟩ ⟨Nat.le_of_ble_eq_true rfl, Nat.le_of_ble_eq_true rfl⟩ ⟨Nat.zero_le _, Nat.zero_le _⟩ hl.1 (Nat.le_of_ble_eq_true rfl) dX1_times_47 (fun H locs hP hS => ?_)
          refine lv_icmp_ge (tgt := 151) hx hb dX1_times_50 (by decide) (fun c34 => ?_) (fun c34 => ?_)
          · have hf := ifT c34 hf
            exact KE41_1 _ _ _ _ _ (hx41 _ (Option.some.inj hf).symm).symm H locs hP hS ls (lv_sub hl [1, 3, 4] rfl)
          · have hf := ifF c34 hf
            refine lv_aload_n hx hb dX1_times_53 rfl (lv_at hl 0 rfl) ?_
            refine gx_X1_40_1000 E hX hD hP dX1_times_54 ?_
            refine gx_X1_278_1050 E hX hD hP dX1_times_57 ?_
            refine lv_iload hx hb dX1_times_60 (lv_at hl 5 rfl) ?_
            obtain ⟨v35, hv35, hf⟩ := bdP hf
            refine p_lald hx hb hX.1 hP (hD.1 _ _ dX_1140) sgX1_times_raL1140 hv35 dX1_times_62 ?_
            refine lv_lconst hx hb dX1_times_63 lc_0 ?_
            refine W.lcmp hx hb dX1_times_64 ?_
            have J145 : ∀ (y36 : Int32) (y37 : Int32) (a38 : Nat → Int32) (a39 : Nat → Int32) (a40 : Nat → Int32), xo_X1_times_J145 y28 y36 y37 a38 a39 a40 = some o41 → ∀ (H : Heap) (locs : List Loc), PIC D clsA G dsc ad (sgX1_times σ z8 z9 z10 z11 z12 z13 z14 z15 z16 a17 a38 a39 a40 a19 a20 a21 a22 a23) H → va_S A s.heap H locs → ∀ (ls : Array Slot), lv_has ls 8 [(0, .ref (ad 1000)), (2, .int x2), (3, va_rf (drf ad 1400 v7)), (4, .int y36), (5, .int y37), (6, .int y28)] → W p l e rmX1_times s m args below meth c0 H locs 0 0 Q (F0 m 145 ls []) := by
              intro y36 y37 a38 a39 a40 hf H locs hP hS ls hl
              unfold xo_X1_times_J145 at hf
              obtain ⟨v41, hv41, hf⟩ := bdP hf
              refine lv_iinc (v := v41) (lv' := [(6, .int v41), (0, .ref (ad 1000)), (2, .int x2), (3, va_rf (drf ad 1400 v7)), (4, .int y36), (5, .int y37)]) hx hb dX1_times_145 hl (k := 5) rfl (Option.some.inj hv41) (by decide) rfl (fun ls hl => ?_)
              refine lv_goto (tgt := 41) hx hb dX1_times_148 (by decide) ?_
              exact ih41 _ (Option.some.inj hf).symm H locs hP hS ls (lv_sub hl [1, 2, 3, 4, 5, 0] rfl) KE41_0 KE41_1
            refine lv_if_ne (tgt := 71) hx hb dX1_times_65 (by decide) (fun c42 => ?_) (fun c42 => ?_)
            · have hf := ifF (mt (lgc_eq _ _).mpr c42) hf
              refine r_aload_n hx hb dX1_times_71 rfl (lv_at hl 2 rfl) ?_
              refine lv_iload hx hb dX1_times_72 (lv_at hl 5 rfl) ?_
              obtain ⟨⟨v43, a44, a45, a46⟩, u47, hf⟩ := bdP hf
              dsimp only at hf
              refine cx_X1_328_D E hX hD hP hS hA sgX1_times_rzI1062 sgX1_times_rzI1082 sgX1_times_rzI1092 sgX1_times_rzI1094 sgX1_times_rzI1095 sgX1_times_rzI1262 sgX1_times_rzI1485 sgX1_times_rzI2008 sgX1_times_rzI2012 sgX1_times_rzI2013 sgX1_times_rzI2027 sgX1_times_rzI2032 sgX1_times_rzL1061 sgX1_times_rzL1081 sgX1_times_rzL1091 sgX1_times_raI1108 sgX1_times_raI1160 sgX1_times_raI1162 sgX1_times_raI1163 sgX1_times_raI1164 sgX1_times_raI1170 sgX1_times_raI1265 sgX1_times_raI2037 sgX1_times_raI2043 sgX1_times_raL1140 sgX1_times_raL1141 sgX1_times_raL1150 sgX1_times_raL1152 sgX1_times_raL1153 rfl rfl rfl sgX1_times_rpR2 sgX1_times_rpR5 sgX1_times_rpR6 sgX1_times_rpW0 sgX1_times_rpW1 sgX1_times_rpW2 sgX1_times_rpU0 sgX1_times_rpU1 sgX1_times_rpU2 sgX1_times_rpU3 sgX1_times_rgG0 u47 ⟨Nat.le_of_ble_eq_true rfl, Nat.le_of_ble_eq_true rfl⟩ ⟨Nat.zero_le _, Nat.zero_le _⟩ hl.1 (Nat.le_of_ble_eq_true rfl) dX1_times_74 (fun H locs hP hS => ?_)
              rw [sgX1_times_aI1160, sgX1_times_aI1162, sgX1_times_aI1163] at hP
              refine lv_istore (lv' := [(7, .int v43), (0, .ref (ad 1000)), (2, .int x2), (3, va_rf (drf ad 1400 v7)), (4, .int y26), (5, .int y27), (6, .int y28)]) hx hb dX1_times_77 hl (by decide) rfl (fun ls hl => ?_)
              refine lv_iload hx hb dX1_times_79 (lv_at hl 0 rfl) ?_
              refine lv_bipush hx hb dX1_times_81 bp_m2 ?_
              refine lv_icmp_eq (tgt := 98) hx hb dX1_times_83 (by decide) (fun c48 => ?_) (fun c48 => ?_)
              · have hf := ifT c48 hf
                exact KE41_0 _ _ _ (hx41 _ (Option.some.inj hf).symm).symm H locs hP hS ls (lv_sub hl [] rfl)
              · have hf := ifF c48 hf
                refine lv_aload_n hx hb dX1_times_86 rfl (lv_at hl 1 rfl) ?_
                refine gx_X1_47_1000 E hX hD hP dX1_times_87 ?_
                refine lv_iload hx hb dX1_times_90 (lv_at hl 6 rfl) ?_
                obtain ⟨v49, hv49, hf⟩ := bdP hf
                refine p_iald hx hb hX.1 hP (hD.1 _ _ dX_1108) sgX1_times_raI1108 hv49 dX1_times_92 ?_
                refine lv_bipush hx hb dX1_times_93 bp_m2 ?_
                refine lv_icmp_ne (tgt := 101) hx hb dX1_times_95 (by decide) (fun c50 => ?_) (fun c50 => ?_)
                · have hf := ifF c50 hf
                  refine lv_iload hx hb dX1_times_101 (lv_at hl 5 rfl) ?_
                  have J132 : xo_X1_times_J132 a17 y28 v43 a44 a45 a46 = some o41 → ∀ (H : Heap) (locs : List Loc), PIC D clsA G dsc ad (sgX1_times σ z8 z9 z10 z11 z12 z13 z14 z15 z16 a17 a44 a45 a46 a19 a20 a21 a22 a23) H → va_S A s.heap H locs → ∀ (ls : Array Slot), lv_has ls 8 [(0, .ref (ad 1000)), (2, .int x2), (3, va_rf (drf ad 1400 v7)), (6, .int y28), (7, .int v43)] → W p l e rmX1_times s m args below meth c0 H locs 0 0 Q (F0 m 132 ls []) := by
                    intro  hf H locs hP hS ls hl
                    unfold xo_X1_times_J132 at hf
                    refine lv_iload hx hb dX1_times_132 (lv_at hl 4 rfl) ?_
                    refine lv_istore (i := 4) (lv' := [(4, .int v43), (0, .ref (ad 1000)), (2, .int x2), (3, va_rf (drf ad 1400 v7)), (6, .int y28), (7, .int v43)]) hx hb dX1_times_134 hl (by decide) (by simp [List.filter_cons, rf_cat]) (fun ls hl => ?_)
                    refine lv_aload_n hx hb dX1_times_136 rfl (lv_at hl 1 rfl) ?_
                    refine gx_X1_47_1000 E hX hD hP dX1_times_137 ?_
                    refine lv_iload hx hb dX1_times_140 (lv_at hl 4 rfl) ?_
                    obtain ⟨v51, hv51, hf⟩ := bdP hf
                    refine p_iald hx hb hX.1 hP (hD.1 _ _ dX_1108) sgX1_times_raI1108 hv51 dX1_times_142 ?_
                    refine lv_istore (lv' := [(5, .int v51), (4, .int v43), (0, .ref (ad 1000)), (2, .int x2), (3, va_rf (drf ad 1400 v7)), (6, .int y28), (7, .int v43)]) hx hb dX1_times_143 hl (by decide) rfl (fun ls hl => ?_)
                    exact J145 v43 v51 a44 a45 a46 hf H locs hP hS ls (lv_sub hl [2, 3, 4, 1, 0, 5] rfl)
                  refine lv_if_eq (tgt := 132) hx hb dX1_times_103 (by decide) (fun c52 => ?_) (fun c52 => ?_)
                  · have hf := ifT c52 hf
                    exact J132  hf H locs hP hS ls (lv_sub hl [1, 2, 3, 6, 0] rfl)
                  · have hf := ifF c52 hf
                    refine lv_iload hx hb dX1_times_106 (lv_at hl 0 rfl) ?_
                    refine lv_i2l hx hb dX1_times_108 rfl ?_
                    refine lv_iload hx hb dX1_times_109 (lv_at hl 5 rfl) ?_
                    refine lv_i2l hx hb dX1_times_111 rfl ?_
                    refine lv_lmul hx hb dX1_times_112 ?_
                    refine lv_iload hx hb dX1_times_113 (lv_at hl 4 rfl) ?_
                    refine lv_i2l hx hb dX1_times_115 rfl ?_
                    refine lv_aload_n hx hb dX1_times_116 rfl (lv_at hl 1 rfl) ?_
                    refine gx_X1_47_1000 E hX hD hP dX1_times_117 ?_
                    refine lv_iload hx hb dX1_times_120 (lv_at hl 6 rfl) ?_
                    obtain ⟨v53, hv53, hf⟩ := bdP hf
                    refine p_iald hx hb hX.1 hP (hD.1 _ _ dX_1108) sgX1_times_raI1108 hv53 dX1_times_122 ?_
                    refine lv_i2l hx hb dX1_times_123 rfl ?_
                    refine lv_lmul hx hb dX1_times_124 ?_
                    refine W.lcmp hx hb dX1_times_125 ?_
                    refine lv_if_gt (tgt := 132) hx hb dX1_times_126 (by decide) (fun c54 => ?_) (fun c54 => ?_)
                    · have hf := ifT ((lgc_gt _ _).mp c54) hf
                      exact J132  hf H locs hP hS ls (lv_sub hl [1, 2, 3, 6, 0] rfl)
                    · have hf := ifF (mt (lgc_gt _ _).mpr c54) hf
                      refine lv_goto (tgt := 145) hx hb dX1_times_129 (by decide) ?_
                      exact J145 y26 y27 a44 a45 a46 hf H locs hP hS ls (lv_sub hl [1, 2, 3, 4, 5, 6] rfl)
                · have hf := ifT c50 hf
                  exact KE41_0 _ _ _ (hx41 _ (Option.some.inj hf).symm).symm H locs hP hS ls (lv_sub hl [] rfl)
            · have hf := ifT ((lgc_eq _ _).mp c42) hf
              refine lv_goto (tgt := 145) hx hb dX1_times_68 (by decide) ?_
              exact J145 y26 y27 a29 a30 a31 hf H locs hP hS ls (lv_sub hl [0, 1, 2, 3, 4, 5] rfl)
        obtain ⟨ex41, hlp41, hf⟩ := bdP hf
        refine LP41 (0, 0, 0, (σ.2.2.1 1160), a18, (σ.2.2.1 1163)) ex41 hlp41 H locs hP hS ls (lv_sub hl [4, 6, 3, 2, 1, 0] rfl) ?_ ?_
        · intro a55 a56 a57 hex41 H locs hP hS ls hl
          subst ex41
          dsimp only [sE_l, sE_r] at hf
          refine lv_bipush hx hb dX1_times_98 bp_m2 ?_
          cases hf
          rw [hQ]; exact g_iret hx hb hr hlk hP hS dX1_times_100
        · intro y58 y59 a60 a61 a62 hex41 H locs hP hS ls hl
          subst ex41
          dsimp only [sE_l, sE_r] at hf
          refine lv_iload_n hx hb dX1_times_151 rfl (lv_at hl 0 rfl) ?_
          refine lv_if_ne (tgt := 160) hx hb dX1_times_152 (by decide) (fun c63 => ?_) (fun c63 => ?_)
          · have hf := ifF c63 hf
            refine lv_iload hx hb dX1_times_160 (lv_at hl 2 rfl) ?_
            cases hf
            rw [hQ]; exact g_iret hx hb hr hlk hP hS dX1_times_162
          · have hf := ifT c63 hf
            refine lv_iload hx hb dX1_times_155 (lv_at hl 1 rfl) ?_
            refine lv_goto (tgt := 162) hx hb dX1_times_157 (by decide) ?_
            cases hf
            rw [hQ]; exact g_iret hx hb hr hlk hP hS dX1_times_162
    · have hf := ifT c6 hf
      refine lv_iconst hx hb dX1_times_17 ic_m1 ?_
      cases hf
      rw [hQ]; exact g_iret hx hb hr hlk hP hS dX1_times_18
theorem kxX1_times (l : Launch) (D : va_G) (G : Nat → ClassId) {dsc : Nat → Option Dsc} {ad : Nat → Nat} {σ : Sto} {nr nw nu : Nat} (hD : XD dsc nr nw nu) {x1 : Int32} {x2 : Int32} {r_ : Int32} {w_zI1018 : Int32} {w_zI1019 : Int32} {w_zI1020 : Int32} {w_zI1062 : Int32} {w_zI1082 : Int32} {w_zI1092 : Int32} {w_zI1094 : Int32} {w_zI1095 : Int32} {w_zL1052 : Int64} {w_aI1108 : Nat → Int32} {w_aI1160 : Nat → Int32} {w_aI1162 : Nat → Int32} {w_aI1163 : Nat → Int32} {w_aL1140 : Nat → Int64} {w_aL1141 : Nat → Int64} {w_aL1150 : Nat → Int64} {w_aL1152 : Nat → Int64} {w_aL1153 : Nat → Int64} {z_X_isLaid : Int32} (e_zI1018 : σ.1 1018 = z_X_isLaid) {z_X_isFair : Int32} (e_zI1019 : σ.1 1019 = z_X_isFair) {z_X_hasFair : Int32} (e_zI1020 : σ.1 1020 = z_X_hasFair) {z_TB_by : Int32} (e_zI1062 : σ.1 1062 = z_TB_by) {z_TS_by : Int32} (e_zI1082 : σ.1 1082 = z_TS_by) {z_TF_by : Int32} (e_zI1092 : σ.1 1092 = z_TF_by) {z_TF_times : Int32} (e_zI1094 : σ.1 1094 = z_TF_times) {z_TF_of : Int32} (e_zI1095 : σ.1 1095 = z_TF_of) {z_ru_size : Int32} (e_zI1262 : σ.1 1262 = z_ru_size) {z_p5_many : Int32} (e_zI1485 : σ.1 1485 = z_p5_many) {z_L_places : Int32} (e_zI2008 : σ.1 2008 = z_L_places) {z_L_causes : Int32} (e_zI2009 : σ.1 2009 = z_L_causes) {z_L_from : Int32} (e_zI2012 : σ.1 2012 = z_L_from) {z_L_to : Int32} (e_zI2013 : σ.1 2013 = z_L_to) {z_Ld_size : Int32} (e_zI2027 : σ.1 2027 = z_Ld_size) {z_Lw_size : Int32} (e_zI2032 : σ.1 2032 = z_Lw_size) {z_W_all : Int64} (e_zL1052 : σ.2.1 1052 = z_W_all) {z_TB_none : Int64} (e_zL1061 : σ.2.1 1061 = z_TB_none) {z_TS_none : Int64} (e_zL1081 : σ.2.1 1081 = z_TS_none) {z_TF_none : Int64} (e_zL1091 : σ.2.1 1091 = z_TF_none) {a_X_knowing : Nat → Int32} (e_aI1108 : σ.2.2.1 1108 = a_X_knowing) {a_p5_far : Nat → Int32} (e_aI1160 : σ.2.2.1 1160 = a_p5_far) {a_p3_far : Nat → Int32} (e_aI1162 : σ.2.2.1 1162 = a_p3_far) {a_p4_far : Nat → Int32} (e_aI1163 : σ.2.2.1 1163 = a_p4_far) {a_p5_row : Nat → Int32} (e_aI1164 : σ.2.2.1 1164 = a_p5_row) {a_UNIT : Nat → Int32} (e_aI1170 : σ.2.2.1 1170 = a_UNIT) {a_ru_data : Nat → Int32} (e_aI1265 : σ.2.2.1 1265 = a_ru_data) {a_Ld_data : Nat → Int32} (e_aI2036 : σ.2.2.1 2036 = a_Ld_data) {a_Lw_data : Nat → Int32} (e_aI2037 : σ.2.2.1 2037 = a_Lw_data) {a_L_comes : Nat → Int32} (e_aI2042 : σ.2.2.1 2042 = a_L_comes) {a_L_seen : Nat → Int32} (e_aI2043 : σ.2.2.1 2043 = a_L_seen) {a_W_world : Nat → Int64} (e_aL1140 : σ.2.2.2.1 1140 = a_W_world) {a_W_likely : Nat → Int64} (e_aL1141 : σ.2.2.2.1 1141 = a_W_likely) {a_TB_value : Nat → Int64} (e_aL1150 : σ.2.2.2.1 1150 = a_TB_value) {a_TS_value : Nat → Int64} (e_aL1152 : σ.2.2.2.1 1152 = a_TS_value) {a_TF_value : Nat → Int64} (e_aL1153 : σ.2.2.2.1 1153 = a_TF_value) {n_r : Nat} (e_nN0 : nr = n_r) {n_w : Nat} (e_nN1 : nw = n_w) {n_u : Nat} (e_nN2 : nu = n_u) {p_road_hours : Nat → Int32} (e_pR2 : (fun k => σ.1 (6000 + 16 * k + 2)) = p_road_hours) {p_road_doubt : Nat → Int32} (e_pR3 : (fun k => σ.1 (6000 + 16 * k + 3)) = p_road_doubt) {p_road_cause : Nat → Int32} (e_pR4 : (fun k => σ.1 (6000 + 16 * k + 4)) = p_road_cause) {p_road_wait : Nat → Int32} (e_pR5 : (fun k => σ.1 (6000 + 16 * k + 5)) = p_road_wait) {p_road_number : Nat → Int32} (e_pR6 : (fun k => σ.1 (6000 + 16 * k + 6)) = p_road_number) {p_word_place : Nat → Int32} (e_pW0 : (fun k => σ.1 (8000 + 16 * k + 0)) = p_word_place) {p_word_road : Nat → Int32} (e_pW1 : (fun k => σ.1 (8000 + 16 * k + 1)) = p_word_road) {p_word_hours : Nat → Int32} (e_pW2 : (fun k => σ.1 (8000 + 16 * k + 2)) = p_word_hours) {p_rule_place : Nat → Int32} (e_pU0 : (fun k => σ.1 (10000 + 16 * k + 0)) = p_rule_place) {p_rule_road : Nat → Int32} (e_pU1 : (fun k => σ.1 (10000 + 16 * k + 1)) = p_rule_road) {p_rule_known : Nat → Int32} (e_pU2 : (fun k => σ.1 (10000 + 16 * k + 2)) = p_rule_known) {p_rule_to : Nat → Int32} (e_pU3 : (fun k => σ.1 (10000 + 16 * k + 3)) = p_rule_to) {g_grid : Nat → Nat → Int32} (e_gG0 : (fun k => σ.2.2.1 (4000 + 16 * k)) = g_grid) (hf : xo_X1_times z_X_isLaid z_X_isFair z_X_hasFair z_TB_by z_TS_by z_TF_by z_TF_times z_TF_of z_ru_size z_p5_many z_L_places z_L_causes z_L_from z_L_to z_Ld_size z_Lw_size z_W_all z_TB_none z_TS_none z_TF_none a_X_knowing a_p5_far a_p3_far a_p4_far a_p5_row a_UNIT a_ru_data a_Ld_data a_Lw_data a_L_comes a_L_seen a_W_world a_W_likely a_TB_value a_TS_value a_TF_value n_r n_w n_u p_road_hours p_road_doubt p_road_cause p_road_wait p_road_number p_word_place p_word_road p_word_hours p_rule_place p_rule_road p_rule_known p_rule_to g_grid x1 x2 = some (r_, w_zI1018, w_zI1019, w_zI1020, w_zI1062, w_zI1082, w_zI1092, w_zI1094, w_zI1095, w_zL1052, w_aI1108, w_aI1160, w_aI1162, w_aI1163, w_aL1140, w_aL1141, w_aL1150, w_aL1152, w_aL1153)) : CtG l D G dsc ad yX1_times (ws_ yX1_times cX1_times 8 (Option.some Jvm.ClassFile.FieldType.int)) rmX1_times [.ref (ad 1000), .int x1, .int x2] σ (some (.int r_)) (aL (aL (aL (aL (aL (aI (aI (aI (aI (zL (zI (zI (zI (zI (zI (zI (zI (zI σ 1018 w_zI1018) 1019 w_zI1019) 1020 w_zI1020) 1062 w_zI1062) 1082 w_zI1082) 1092 w_zI1092) 1094 w_zI1094) 1095 w_zI1095) 1052 w_zL1052) 1108 w_aI1108) 1160 w_aI1160) 1162 w_aI1162) 1163 w_aI1163) 1140 w_aL1140) 1141 w_aL1141) 1150 w_aL1150) 1152 w_aL1152) 1153 w_aL1153) := by
  subst e_zI1018
  subst e_zI1019
  subst e_zI1020
  subst e_zI1062
  subst e_zI1082
  subst e_zI1092
  subst e_zI1094
  subst e_zI1095
  subst e_zI1262
  subst e_zI1485
  subst e_zI2008
  subst e_zI2009
  subst e_zI2012
  subst e_zI2013
  subst e_zI2027
  subst e_zI2032
  subst e_zL1052
  subst e_zL1061
  subst e_zL1081
  subst e_zL1091
  subst e_aI1108
  subst e_aI1160
  subst e_aI1162
  subst e_aI1163
  subst e_aI1164
  subst e_aI1170
  subst e_aI1265
  subst e_aI2036
  subst e_aI2037
  subst e_aI2042
  subst e_aI2043
  subst e_aL1140
  subst e_aL1141
  subst e_aL1150
  subst e_aL1152
  subst e_aL1153
  subst e_nN0
  subst e_nN1
  subst e_nN2
  subst e_pR2
  subst e_pR3
  subst e_pR4
  subst e_pR5
  subst e_pR6
  subst e_pW0
  subst e_pW1
  subst e_pW2
  subst e_pU0
  subst e_pU1
  subst e_pU2
  subst e_pU3
  subst e_gG0
  exact p_ctG (by decide +kernel) (Nat.le_of_ble_eq_true rfl) (fun p e s m below meth c0 ls A E hP hX hA hS hl => wkX1_times E hX hD hA hf rfl hP hS hl)
/-! X1_walk (I)I -/
abbrev rmX1_walk : Room := { frames := 0, cells := 0, slots := 0, locals := 0 }
set_option maxHeartbeats 4000000 in
theorem wkX1_walk {x1 : Int32} {r_ : Int32} (E : EN p s m args meth c0 RX1 cX1_walk 2 (Option.some Jvm.ClassFile.FieldType.int)) (hX : KX D G ad A s s.heap) (hD : XD dsc nr nw nu) (hA : ∀ q, PA dsc ad s.heap.size q → A q) (hf : xo_X1_walk (σ.1 1027) (σ.1 1028) (σ.1 1029) (σ.1 2013) (σ.2.2.1 1130) (σ.2.2.1 1131) (σ.2.2.1 1132) x1 = some r_) (hQ : Q = MQ below (va_G1 (some (.int r_)) (fun t => PIC D clsA G dsc ad σ t.heap) A) args s 0 0 A) (hP : PIC D clsA G dsc ad σ H) (hS : va_S A s.heap H locs) (hl : lv_has ls 2 [(0, .ref (ad 1000)), (1, .int x1)]) : W p l e rmX1_walk s m args below meth c0 H locs 0 0 Q (F0 m 0 ls []) := by
  obtain ⟨⟨hx, hb, hml, hown, hts⟩, hr, hlk⟩ := id E
  unfold xo_X1_walk at hf
  refine lv_aload_n hx hb dX1_walk_0 rfl (lv_at hl 0 rfl) ?_
  refine gx_X1_168_1000 (v := (σ.1 1027)) E hX hD hP rfl dX1_walk_1 ?_
  refine lv_if_ne (tgt := 9) hx hb dX1_walk_4 (by decide) (fun c1 => ?_) (fun c1 => ?_)
  · have hf := ifF c1 hf
    refine lv_iload_n hx hb dX1_walk_9 rfl (lv_at hl 1 rfl) ?_
    by_cases c2 : x1 = 0
    · have hf := ifT c2 hf
      refine lv_tableIn (tgt := 48) (off := 38) hx hb dX1_walk_10 (by rw [c2]; decide) (by rw [c2]; decide) (by rw [c2]; decide) (by decide) ?_
      refine lv_aload_n hx hb dX1_walk_48 rfl (lv_at hl 0 rfl) ?_
      refine gx_X1_128_1000 E hX hD hP dX1_walk_49 ?_
      refine lv_aload_n hx hb dX1_walk_52 rfl (lv_at hl 0 rfl) ?_
      refine gx_X1_452_1000 (v := (σ.1 1029)) E hX hD hP rfl dX1_walk_53 ?_
      obtain ⟨v3, hv3, hf⟩ := bdP hf
      refine p_iald hx hb hX.1 hP (hD.1 _ _ dX_1130) rfl hv3 dX1_walk_56 ?_
      cases hf
      rw [hQ]; exact g_iret hx hb hr hlk hP hS dX1_walk_57
    have hf := ifF c2 hf
    by_cases c4 : x1 = 1
    · have hf := ifT c4 hf
      refine lv_tableIn (tgt := 58) (off := 48) hx hb dX1_walk_10 (by rw [c4]; decide) (by rw [c4]; decide) (by rw [c4]; decide) (by decide) ?_
      refine lv_aload_n hx hb dX1_walk_58 rfl (lv_at hl 0 rfl) ?_
      refine gx_X1_131_1000 E hX hD hP dX1_walk_59 ?_
      refine lv_aload_n hx hb dX1_walk_62 rfl (lv_at hl 0 rfl) ?_
      refine gx_X1_452_1000 (v := (σ.1 1029)) E hX hD hP rfl dX1_walk_63 ?_
      obtain ⟨v5, hv5, hf⟩ := bdP hf
      refine p_iald hx hb hX.1 hP (hD.1 _ _ dX_1131) rfl hv5 dX1_walk_66 ?_
      cases hf
      rw [hQ]; exact g_iret hx hb hr hlk hP hS dX1_walk_67
    have hf := ifF c4 hf
    by_cases c6 : x1 = 2
    · have hf := ifT c6 hf
      refine lv_tableIn (tgt := 68) (off := 58) hx hb dX1_walk_10 (by rw [c6]; decide) (by rw [c6]; decide) (by rw [c6]; decide) (by decide) ?_
      refine lv_aload_n hx hb dX1_walk_68 rfl (lv_at hl 0 rfl) ?_
      refine gx_X1_134_1000 E hX hD hP dX1_walk_69 ?_
      refine lv_aload_n hx hb dX1_walk_72 rfl (lv_at hl 0 rfl) ?_
      refine gx_X1_452_1000 (v := (σ.1 1029)) E hX hD hP rfl dX1_walk_73 ?_
      obtain ⟨v7, hv7, hf⟩ := bdP hf
      refine p_iald hx hb hX.1 hP (hD.1 _ _ dX_1132) rfl hv7 dX1_walk_76 ?_
      cases hf
      rw [hQ]; exact g_iret hx hb hr hlk hP hS dX1_walk_77
    have hf := ifF c6 hf
    by_cases c8 : x1 = 3
    · have hf := ifT c8 hf
      refine lv_tableIn (tgt := 78) (off := 68) hx hb dX1_walk_10 (by rw [c8]; decide) (by rw [c8]; decide) (by rw [c8]; decide) (by decide) ?_
      refine lv_aload_n hx hb dX1_walk_78 rfl (lv_at hl 0 rfl) ?_
      refine gx_X1_452_1000 (v := (σ.1 1029)) E hX hD hP rfl dX1_walk_79 ?_
      cases hf
      rw [hQ]; exact g_iret hx hb hr hlk hP hS dX1_walk_82
    have hf := ifF c8 hf
    by_cases c9 : x1 = 4
    · have hf := ifT c9 hf
      refine lv_tableIn (tgt := 83) (off := 73) hx hb dX1_walk_10 (by rw [c9]; decide) (by rw [c9]; decide) (by rw [c9]; decide) (by decide) ?_
      refine lv_aload_n hx hb dX1_walk_83 rfl (lv_at hl 0 rfl) ?_
      refine gx_X1_450_1000 (v := (σ.1 1028)) E hX hD hP rfl dX1_walk_84 ?_
      cases hf
      rw [hQ]; exact g_iret hx hb hr hlk hP hS dX1_walk_87
    have hf := ifF c9 hf
    by_cases c10 : x1 = 5
    · have hf := ifT c10 hf
      refine lv_tableIn (tgt := 88) (off := 78) hx hb dX1_walk_10 (by rw [c10]; decide) (by rw [c10]; decide) (by rw [c10]; decide) (by decide) ?_
      refine lv_aload_n hx hb dX1_walk_88 rfl (lv_at hl 0 rfl) ?_
      refine gx_X1_128_1000 E hX hD hP dX1_walk_89 ?_
      refine lv_aload_n hx hb dX1_walk_92 rfl (lv_at hl 0 rfl) ?_
      refine gx_X1_452_1000 (v := (σ.1 1029)) E hX hD hP rfl dX1_walk_93 ?_
      obtain ⟨v11, hv11, hf⟩ := bdP hf
      refine p_iald hx hb hX.1 hP (hD.1 _ _ dX_1130) rfl hv11 dX1_walk_96 ?_
      refine lv_aload_n hx hb dX1_walk_97 rfl (lv_at hl 0 rfl) ?_
      refine gx_X1_33_1000 E hX hD hP dX1_walk_98 ?_
      refine gx_X1_256_2000 (v := (σ.1 2013)) E hX hD hP rfl dX1_walk_101 ?_
      refine lv_icmp_ne (tgt := 111) hx hb dX1_walk_104 (by decide) (fun c12 => ?_) (fun c12 => ?_)
      · have hf := ifF c12 hf
        refine lv_iconst hx hb dX1_walk_111 ic_0 ?_
        cases hf
        rw [hQ]; exact g_iret hx hb hr hlk hP hS dX1_walk_112
      · have hf := ifT c12 hf
        refine lv_iconst hx hb dX1_walk_107 ic_1 ?_
        refine lv_goto (tgt := 112) hx hb dX1_walk_108 (by decide) ?_
        cases hf
        rw [hQ]; exact g_iret hx hb hr hlk hP hS dX1_walk_112
    have hf := ifF c10 hf
    refine lv_tableOut (tgt := 113) hx hb dX1_walk_10 (sw_out6 c2 c4 c6 c8 c9 c10) (by decide) ?_
    refine lv_iconst hx hb dX1_walk_113 ic_m1 ?_
    cases hf
    rw [hQ]; exact g_iret hx hb hr hlk hP hS dX1_walk_114
  · have hf := ifT c1 hf
    refine lv_iconst hx hb dX1_walk_7 ic_m1 ?_
    cases hf
    rw [hQ]; exact g_iret hx hb hr hlk hP hS dX1_walk_8
theorem kxX1_walk (l : Launch) (D : va_G) (G : Nat → ClassId) {dsc : Nat → Option Dsc} {ad : Nat → Nat} {σ : Sto} {nr nw nu : Nat} (hD : XD dsc nr nw nu) {x1 : Int32} {r_ : Int32} {z_X_isWalking : Int32} (e_zI1027 : σ.1 1027 = z_X_isWalking) {z_X_world : Int32} (e_zI1028 : σ.1 1028 = z_X_world) {z_X_steps : Int32} (e_zI1029 : σ.1 1029 = z_X_steps) {z_L_to : Int32} (e_zI2013 : σ.1 2013 = z_L_to) {a_X_places : Nat → Int32} (e_aI1130 : σ.2.2.1 1130 = a_X_places) {a_X_gone : Nat → Int32} (e_aI1131 : σ.2.2.1 1131 = a_X_gone) {a_X_knowns : Nat → Int32} (e_aI1132 : σ.2.2.1 1132 = a_X_knowns) (hf : xo_X1_walk z_X_isWalking z_X_world z_X_steps z_L_to a_X_places a_X_gone a_X_knowns x1 = some r_) : CtG l D G dsc ad yX1_walk (ws_ yX1_walk cX1_walk 2 (Option.some Jvm.ClassFile.FieldType.int)) rmX1_walk [.ref (ad 1000), .int x1] σ (some (.int r_)) σ := by
  subst e_zI1027
  subst e_zI1028
  subst e_zI1029
  subst e_zI2013
  subst e_aI1130
  subst e_aI1131
  subst e_aI1132
  exact p_ctG (by decide +kernel) (Nat.le_of_ble_eq_true rfl) (fun p e s m below meth c0 ls A E hP hX hA hS hl => wkX1_walk E hX hD hA hf rfl hP hS hl)
/-! X1_weight (I)J -/
def sgX1_weight (σ : Sto) (w0 : Int32) (w1 : Int32) (w2 : Int32) (w3 : Int64) (w4 : Nat → Int32) (w5 : Nat → Int32) (w6 : Nat → Int64) (w7 : Nat → Int64) (w8 : Nat → Int64) (w9 : Nat → Int64) : Sto := aL (aL (aL (aL (aI (aI (zL (zI (zI (zI σ 1018 w0) 1062 w1) 1082 w2) 1052 w3) 1108 w4) 1162 w5) 1140 w6) 1141 w7) 1150 w8) 1152 w9
theorem sgX1_weight_self (σ : Sto) : sgX1_weight σ (σ.1 1018) (σ.1 1062) (σ.1 1082) (σ.2.1 1052) (σ.2.2.1 1108) (σ.2.2.1 1162) (σ.2.2.2.1 1140) (σ.2.2.2.1 1141) (σ.2.2.2.1 1150) (σ.2.2.2.1 1152) = σ := by
  unfold sgX1_weight
  simp only [zI_self, zL_self, aI_self, aL_self]
theorem sgX1_weight_zI1018 {σ : Sto} {w0 : Int32} {w1 : Int32} {w2 : Int32} {w3 : Int64} {w4 : Nat → Int32} {w5 : Nat → Int32} {w6 : Nat → Int64} {w7 : Nat → Int64} {w8 : Nat → Int64} {w9 : Nat → Int64} {g : Int32} : zI (sgX1_weight σ w0 w1 w2 w3 w4 w5 w6 w7 w8 w9) 1018 g = sgX1_weight σ g w1 w2 w3 w4 w5 w6 w7 w8 w9 := (cm_zI_aL _ _ _ _ _).trans (congrArg (fun z => aL z 1152 w9) ((cm_zI_aL _ _ _ _ _).trans (congrArg (fun z => aL z 1150 w8) ((cm_zI_aL _ _ _ _ _).trans (congrArg (fun z => aL z 1141 w7) ((cm_zI_aL _ _ _ _ _).trans (congrArg (fun z => aL z 1140 w6) ((cm_zI_aI _ _ _ _ _).trans (congrArg (fun z => aI z 1162 w5) ((cm_zI_aI _ _ _ _ _).trans (congrArg (fun z => aI z 1108 w4) ((cm_zI_zL _ _ _ _ _).trans (congrArg (fun z => zL z 1052 w3) ((zI_comm _ (by decide) _ _).trans (congrArg (fun z => zI z 1082 w2) ((zI_comm _ (by decide) _ _).trans (congrArg (fun z => zI z 1062 w1) (zI_zI _ 1018 _ _))))))))))))))))))
theorem sgX1_weight_zI1062 {σ : Sto} {w0 : Int32} {w1 : Int32} {w2 : Int32} {w3 : Int64} {w4 : Nat → Int32} {w5 : Nat → Int32} {w6 : Nat → Int64} {w7 : Nat → Int64} {w8 : Nat → Int64} {w9 : Nat → Int64} {g : Int32} : zI (sgX1_weight σ w0 w1 w2 w3 w4 w5 w6 w7 w8 w9) 1062 g = sgX1_weight σ w0 g w2 w3 w4 w5 w6 w7 w8 w9 := (cm_zI_aL _ _ _ _ _).trans (congrArg (fun z => aL z 1152 w9) ((cm_zI_aL _ _ _ _ _).trans (congrArg (fun z => aL z 1150 w8) ((cm_zI_aL _ _ _ _ _).trans (congrArg (fun z => aL z 1141 w7) ((cm_zI_aL _ _ _ _ _).trans (congrArg (fun z => aL z 1140 w6) ((cm_zI_aI _ _ _ _ _).trans (congrArg (fun z => aI z 1162 w5) ((cm_zI_aI _ _ _ _ _).trans (congrArg (fun z => aI z 1108 w4) ((cm_zI_zL _ _ _ _ _).trans (congrArg (fun z => zL z 1052 w3) ((zI_comm _ (by decide) _ _).trans (congrArg (fun z => zI z 1082 w2) (zI_zI _ 1062 _ _))))))))))))))))
theorem sgX1_weight_zI1082 {σ : Sto} {w0 : Int32} {w1 : Int32} {w2 : Int32} {w3 : Int64} {w4 : Nat → Int32} {w5 : Nat → Int32} {w6 : Nat → Int64} {w7 : Nat → Int64} {w8 : Nat → Int64} {w9 : Nat → Int64} {g : Int32} : zI (sgX1_weight σ w0 w1 w2 w3 w4 w5 w6 w7 w8 w9) 1082 g = sgX1_weight σ w0 w1 g w3 w4 w5 w6 w7 w8 w9 := (cm_zI_aL _ _ _ _ _).trans (congrArg (fun z => aL z 1152 w9) ((cm_zI_aL _ _ _ _ _).trans (congrArg (fun z => aL z 1150 w8) ((cm_zI_aL _ _ _ _ _).trans (congrArg (fun z => aL z 1141 w7) ((cm_zI_aL _ _ _ _ _).trans (congrArg (fun z => aL z 1140 w6) ((cm_zI_aI _ _ _ _ _).trans (congrArg (fun z => aI z 1162 w5) ((cm_zI_aI _ _ _ _ _).trans (congrArg (fun z => aI z 1108 w4) ((cm_zI_zL _ _ _ _ _).trans (congrArg (fun z => zL z 1052 w3) (zI_zI _ 1082 _ _))))))))))))))
theorem sgX1_weight_zL1052 {σ : Sto} {w0 : Int32} {w1 : Int32} {w2 : Int32} {w3 : Int64} {w4 : Nat → Int32} {w5 : Nat → Int32} {w6 : Nat → Int64} {w7 : Nat → Int64} {w8 : Nat → Int64} {w9 : Nat → Int64} {g : Int64} : zL (sgX1_weight σ w0 w1 w2 w3 w4 w5 w6 w7 w8 w9) 1052 g = sgX1_weight σ w0 w1 w2 g w4 w5 w6 w7 w8 w9 := (cm_zL_aL _ _ _ _ _).trans (congrArg (fun z => aL z 1152 w9) ((cm_zL_aL _ _ _ _ _).trans (congrArg (fun z => aL z 1150 w8) ((cm_zL_aL _ _ _ _ _).trans (congrArg (fun z => aL z 1141 w7) ((cm_zL_aL _ _ _ _ _).trans (congrArg (fun z => aL z 1140 w6) ((cm_zL_aI _ _ _ _ _).trans (congrArg (fun z => aI z 1162 w5) ((cm_zL_aI _ _ _ _ _).trans (congrArg (fun z => aI z 1108 w4) (zL_zL _ 1052 _ _))))))))))))
theorem sgX1_weight_aI1108 {σ : Sto} {w0 : Int32} {w1 : Int32} {w2 : Int32} {w3 : Int64} {w4 : Nat → Int32} {w5 : Nat → Int32} {w6 : Nat → Int64} {w7 : Nat → Int64} {w8 : Nat → Int64} {w9 : Nat → Int64} {g : Nat → Int32} : aI (sgX1_weight σ w0 w1 w2 w3 w4 w5 w6 w7 w8 w9) 1108 g = sgX1_weight σ w0 w1 w2 w3 g w5 w6 w7 w8 w9 := (cm_aI_aL _ _ _ _ _).trans (congrArg (fun z => aL z 1152 w9) ((cm_aI_aL _ _ _ _ _).trans (congrArg (fun z => aL z 1150 w8) ((cm_aI_aL _ _ _ _ _).trans (congrArg (fun z => aL z 1141 w7) ((cm_aI_aL _ _ _ _ _).trans (congrArg (fun z => aL z 1140 w6) ((aI_comm _ (by decide) _ _).trans (congrArg (fun z => aI z 1162 w5) (aI_aI _ 1108 _ _))))))))))
theorem sgX1_weight_aI1162 {σ : Sto} {w0 : Int32} {w1 : Int32} {w2 : Int32} {w3 : Int64} {w4 : Nat → Int32} {w5 : Nat → Int32} {w6 : Nat → Int64} {w7 : Nat → Int64} {w8 : Nat → Int64} {w9 : Nat → Int64} {g : Nat → Int32} : aI (sgX1_weight σ w0 w1 w2 w3 w4 w5 w6 w7 w8 w9) 1162 g = sgX1_weight σ w0 w1 w2 w3 w4 g w6 w7 w8 w9 := (cm_aI_aL _ _ _ _ _).trans (congrArg (fun z => aL z 1152 w9) ((cm_aI_aL _ _ _ _ _).trans (congrArg (fun z => aL z 1150 w8) ((cm_aI_aL _ _ _ _ _).trans (congrArg (fun z => aL z 1141 w7) ((cm_aI_aL _ _ _ _ _).trans (congrArg (fun z => aL z 1140 w6) (aI_aI _ 1162 _ _))))))))
theorem sgX1_weight_aL1140 {σ : Sto} {w0 : Int32} {w1 : Int32} {w2 : Int32} {w3 : Int64} {w4 : Nat → Int32} {w5 : Nat → Int32} {w6 : Nat → Int64} {w7 : Nat → Int64} {w8 : Nat → Int64} {w9 : Nat → Int64} {g : Nat → Int64} : aL (sgX1_weight σ w0 w1 w2 w3 w4 w5 w6 w7 w8 w9) 1140 g = sgX1_weight σ w0 w1 w2 w3 w4 w5 g w7 w8 w9 := (aL_comm _ (by decide) _ _).trans (congrArg (fun z => aL z 1152 w9) ((aL_comm _ (by decide) _ _).trans (congrArg (fun z => aL z 1150 w8) ((aL_comm _ (by decide) _ _).trans (congrArg (fun z => aL z 1141 w7) (aL_aL _ 1140 _ _))))))
theorem sgX1_weight_aL1141 {σ : Sto} {w0 : Int32} {w1 : Int32} {w2 : Int32} {w3 : Int64} {w4 : Nat → Int32} {w5 : Nat → Int32} {w6 : Nat → Int64} {w7 : Nat → Int64} {w8 : Nat → Int64} {w9 : Nat → Int64} {g : Nat → Int64} : aL (sgX1_weight σ w0 w1 w2 w3 w4 w5 w6 w7 w8 w9) 1141 g = sgX1_weight σ w0 w1 w2 w3 w4 w5 w6 g w8 w9 := (aL_comm _ (by decide) _ _).trans (congrArg (fun z => aL z 1152 w9) ((aL_comm _ (by decide) _ _).trans (congrArg (fun z => aL z 1150 w8) (aL_aL _ 1141 _ _))))
theorem sgX1_weight_aL1150 {σ : Sto} {w0 : Int32} {w1 : Int32} {w2 : Int32} {w3 : Int64} {w4 : Nat → Int32} {w5 : Nat → Int32} {w6 : Nat → Int64} {w7 : Nat → Int64} {w8 : Nat → Int64} {w9 : Nat → Int64} {g : Nat → Int64} : aL (sgX1_weight σ w0 w1 w2 w3 w4 w5 w6 w7 w8 w9) 1150 g = sgX1_weight σ w0 w1 w2 w3 w4 w5 w6 w7 g w9 := (aL_comm _ (by decide) _ _).trans (congrArg (fun z => aL z 1152 w9) (aL_aL _ 1150 _ _))
theorem sgX1_weight_aL1152 {σ : Sto} {w0 : Int32} {w1 : Int32} {w2 : Int32} {w3 : Int64} {w4 : Nat → Int32} {w5 : Nat → Int32} {w6 : Nat → Int64} {w7 : Nat → Int64} {w8 : Nat → Int64} {w9 : Nat → Int64} {g : Nat → Int64} : aL (sgX1_weight σ w0 w1 w2 w3 w4 w5 w6 w7 w8 w9) 1152 g = sgX1_weight σ w0 w1 w2 w3 w4 w5 w6 w7 w8 g := aL_aL _ 1152 _ _
theorem sgX1_weight_rzI1018 {σ : Sto} {w0 : Int32} {w1 : Int32} {w2 : Int32} {w3 : Int64} {w4 : Nat → Int32} {w5 : Nat → Int32} {w6 : Nat → Int64} {w7 : Nat → Int64} {w8 : Nat → Int64} {w9 : Nat → Int64} : (sgX1_weight σ w0 w1 w2 w3 w4 w5 w6 w7 w8 w9).1 1018 = w0 := rfl
theorem sgX1_weight_rzI1062 {σ : Sto} {w0 : Int32} {w1 : Int32} {w2 : Int32} {w3 : Int64} {w4 : Nat → Int32} {w5 : Nat → Int32} {w6 : Nat → Int64} {w7 : Nat → Int64} {w8 : Nat → Int64} {w9 : Nat → Int64} : (sgX1_weight σ w0 w1 w2 w3 w4 w5 w6 w7 w8 w9).1 1062 = w1 := rfl
theorem sgX1_weight_rzI1082 {σ : Sto} {w0 : Int32} {w1 : Int32} {w2 : Int32} {w3 : Int64} {w4 : Nat → Int32} {w5 : Nat → Int32} {w6 : Nat → Int64} {w7 : Nat → Int64} {w8 : Nat → Int64} {w9 : Nat → Int64} : (sgX1_weight σ w0 w1 w2 w3 w4 w5 w6 w7 w8 w9).1 1082 = w2 := rfl
theorem sgX1_weight_rzI2008 {σ : Sto} {w0 : Int32} {w1 : Int32} {w2 : Int32} {w3 : Int64} {w4 : Nat → Int32} {w5 : Nat → Int32} {w6 : Nat → Int64} {w7 : Nat → Int64} {w8 : Nat → Int64} {w9 : Nat → Int64} : (sgX1_weight σ w0 w1 w2 w3 w4 w5 w6 w7 w8 w9).1 2008 = σ.1 2008 := rfl
theorem sgX1_weight_rzI2009 {σ : Sto} {w0 : Int32} {w1 : Int32} {w2 : Int32} {w3 : Int64} {w4 : Nat → Int32} {w5 : Nat → Int32} {w6 : Nat → Int64} {w7 : Nat → Int64} {w8 : Nat → Int64} {w9 : Nat → Int64} : (sgX1_weight σ w0 w1 w2 w3 w4 w5 w6 w7 w8 w9).1 2009 = σ.1 2009 := rfl
theorem sgX1_weight_rzI2012 {σ : Sto} {w0 : Int32} {w1 : Int32} {w2 : Int32} {w3 : Int64} {w4 : Nat → Int32} {w5 : Nat → Int32} {w6 : Nat → Int64} {w7 : Nat → Int64} {w8 : Nat → Int64} {w9 : Nat → Int64} : (sgX1_weight σ w0 w1 w2 w3 w4 w5 w6 w7 w8 w9).1 2012 = σ.1 2012 := rfl
theorem sgX1_weight_rzI2013 {σ : Sto} {w0 : Int32} {w1 : Int32} {w2 : Int32} {w3 : Int64} {w4 : Nat → Int32} {w5 : Nat → Int32} {w6 : Nat → Int64} {w7 : Nat → Int64} {w8 : Nat → Int64} {w9 : Nat → Int64} : (sgX1_weight σ w0 w1 w2 w3 w4 w5 w6 w7 w8 w9).1 2013 = σ.1 2013 := rfl
theorem sgX1_weight_rzI2027 {σ : Sto} {w0 : Int32} {w1 : Int32} {w2 : Int32} {w3 : Int64} {w4 : Nat → Int32} {w5 : Nat → Int32} {w6 : Nat → Int64} {w7 : Nat → Int64} {w8 : Nat → Int64} {w9 : Nat → Int64} : (sgX1_weight σ w0 w1 w2 w3 w4 w5 w6 w7 w8 w9).1 2027 = σ.1 2027 := rfl
theorem sgX1_weight_rzI2032 {σ : Sto} {w0 : Int32} {w1 : Int32} {w2 : Int32} {w3 : Int64} {w4 : Nat → Int32} {w5 : Nat → Int32} {w6 : Nat → Int64} {w7 : Nat → Int64} {w8 : Nat → Int64} {w9 : Nat → Int64} : (sgX1_weight σ w0 w1 w2 w3 w4 w5 w6 w7 w8 w9).1 2032 = σ.1 2032 := rfl
theorem sgX1_weight_rzL1052 {σ : Sto} {w0 : Int32} {w1 : Int32} {w2 : Int32} {w3 : Int64} {w4 : Nat → Int32} {w5 : Nat → Int32} {w6 : Nat → Int64} {w7 : Nat → Int64} {w8 : Nat → Int64} {w9 : Nat → Int64} : (sgX1_weight σ w0 w1 w2 w3 w4 w5 w6 w7 w8 w9).2.1 1052 = w3 := rfl
theorem sgX1_weight_rzL1061 {σ : Sto} {w0 : Int32} {w1 : Int32} {w2 : Int32} {w3 : Int64} {w4 : Nat → Int32} {w5 : Nat → Int32} {w6 : Nat → Int64} {w7 : Nat → Int64} {w8 : Nat → Int64} {w9 : Nat → Int64} : (sgX1_weight σ w0 w1 w2 w3 w4 w5 w6 w7 w8 w9).2.1 1061 = σ.2.1 1061 := rfl
theorem sgX1_weight_rzL1081 {σ : Sto} {w0 : Int32} {w1 : Int32} {w2 : Int32} {w3 : Int64} {w4 : Nat → Int32} {w5 : Nat → Int32} {w6 : Nat → Int64} {w7 : Nat → Int64} {w8 : Nat → Int64} {w9 : Nat → Int64} : (sgX1_weight σ w0 w1 w2 w3 w4 w5 w6 w7 w8 w9).2.1 1081 = σ.2.1 1081 := rfl
theorem sgX1_weight_raI1108 {σ : Sto} {w0 : Int32} {w1 : Int32} {w2 : Int32} {w3 : Int64} {w4 : Nat → Int32} {w5 : Nat → Int32} {w6 : Nat → Int64} {w7 : Nat → Int64} {w8 : Nat → Int64} {w9 : Nat → Int64} : (sgX1_weight σ w0 w1 w2 w3 w4 w5 w6 w7 w8 w9).2.2.1 1108 = w4 := rfl
theorem sgX1_weight_raI1162 {σ : Sto} {w0 : Int32} {w1 : Int32} {w2 : Int32} {w3 : Int64} {w4 : Nat → Int32} {w5 : Nat → Int32} {w6 : Nat → Int64} {w7 : Nat → Int64} {w8 : Nat → Int64} {w9 : Nat → Int64} : (sgX1_weight σ w0 w1 w2 w3 w4 w5 w6 w7 w8 w9).2.2.1 1162 = w5 := rfl
theorem sgX1_weight_raI1170 {σ : Sto} {w0 : Int32} {w1 : Int32} {w2 : Int32} {w3 : Int64} {w4 : Nat → Int32} {w5 : Nat → Int32} {w6 : Nat → Int64} {w7 : Nat → Int64} {w8 : Nat → Int64} {w9 : Nat → Int64} : (sgX1_weight σ w0 w1 w2 w3 w4 w5 w6 w7 w8 w9).2.2.1 1170 = σ.2.2.1 1170 := rfl
theorem sgX1_weight_raI2036 {σ : Sto} {w0 : Int32} {w1 : Int32} {w2 : Int32} {w3 : Int64} {w4 : Nat → Int32} {w5 : Nat → Int32} {w6 : Nat → Int64} {w7 : Nat → Int64} {w8 : Nat → Int64} {w9 : Nat → Int64} : (sgX1_weight σ w0 w1 w2 w3 w4 w5 w6 w7 w8 w9).2.2.1 2036 = σ.2.2.1 2036 := rfl
theorem sgX1_weight_raI2037 {σ : Sto} {w0 : Int32} {w1 : Int32} {w2 : Int32} {w3 : Int64} {w4 : Nat → Int32} {w5 : Nat → Int32} {w6 : Nat → Int64} {w7 : Nat → Int64} {w8 : Nat → Int64} {w9 : Nat → Int64} : (sgX1_weight σ w0 w1 w2 w3 w4 w5 w6 w7 w8 w9).2.2.1 2037 = σ.2.2.1 2037 := rfl
theorem sgX1_weight_raI2042 {σ : Sto} {w0 : Int32} {w1 : Int32} {w2 : Int32} {w3 : Int64} {w4 : Nat → Int32} {w5 : Nat → Int32} {w6 : Nat → Int64} {w7 : Nat → Int64} {w8 : Nat → Int64} {w9 : Nat → Int64} : (sgX1_weight σ w0 w1 w2 w3 w4 w5 w6 w7 w8 w9).2.2.1 2042 = σ.2.2.1 2042 := rfl
theorem sgX1_weight_raI2043 {σ : Sto} {w0 : Int32} {w1 : Int32} {w2 : Int32} {w3 : Int64} {w4 : Nat → Int32} {w5 : Nat → Int32} {w6 : Nat → Int64} {w7 : Nat → Int64} {w8 : Nat → Int64} {w9 : Nat → Int64} : (sgX1_weight σ w0 w1 w2 w3 w4 w5 w6 w7 w8 w9).2.2.1 2043 = σ.2.2.1 2043 := rfl
theorem sgX1_weight_raL1140 {σ : Sto} {w0 : Int32} {w1 : Int32} {w2 : Int32} {w3 : Int64} {w4 : Nat → Int32} {w5 : Nat → Int32} {w6 : Nat → Int64} {w7 : Nat → Int64} {w8 : Nat → Int64} {w9 : Nat → Int64} : (sgX1_weight σ w0 w1 w2 w3 w4 w5 w6 w7 w8 w9).2.2.2.1 1140 = w6 := rfl
theorem sgX1_weight_raL1141 {σ : Sto} {w0 : Int32} {w1 : Int32} {w2 : Int32} {w3 : Int64} {w4 : Nat → Int32} {w5 : Nat → Int32} {w6 : Nat → Int64} {w7 : Nat → Int64} {w8 : Nat → Int64} {w9 : Nat → Int64} : (sgX1_weight σ w0 w1 w2 w3 w4 w5 w6 w7 w8 w9).2.2.2.1 1141 = w7 := rfl
theorem sgX1_weight_raL1150 {σ : Sto} {w0 : Int32} {w1 : Int32} {w2 : Int32} {w3 : Int64} {w4 : Nat → Int32} {w5 : Nat → Int32} {w6 : Nat → Int64} {w7 : Nat → Int64} {w8 : Nat → Int64} {w9 : Nat → Int64} : (sgX1_weight σ w0 w1 w2 w3 w4 w5 w6 w7 w8 w9).2.2.2.1 1150 = w8 := rfl
theorem sgX1_weight_raL1152 {σ : Sto} {w0 : Int32} {w1 : Int32} {w2 : Int32} {w3 : Int64} {w4 : Nat → Int32} {w5 : Nat → Int32} {w6 : Nat → Int64} {w7 : Nat → Int64} {w8 : Nat → Int64} {w9 : Nat → Int64} : (sgX1_weight σ w0 w1 w2 w3 w4 w5 w6 w7 w8 w9).2.2.2.1 1152 = w9 := rfl
theorem sgX1_weight_rpR2 {σ : Sto} {w0 : Int32} {w1 : Int32} {w2 : Int32} {w3 : Int64} {w4 : Nat → Int32} {w5 : Nat → Int32} {w6 : Nat → Int64} {w7 : Nat → Int64} {w8 : Nat → Int64} {w9 : Nat → Int64} : (fun k => (sgX1_weight σ w0 w1 w2 w3 w4 w5 w6 w7 w8 w9).1 (6000 + 16 * k + 2)) = (fun k => σ.1 (6000 + 16 * k + 2)) := by
  funext k
  unfold sgX1_weight
  dsimp only [zI, zL, aI, aL]
  repeat rw [if_neg (by omega)]
theorem sgX1_weight_rpR3 {σ : Sto} {w0 : Int32} {w1 : Int32} {w2 : Int32} {w3 : Int64} {w4 : Nat → Int32} {w5 : Nat → Int32} {w6 : Nat → Int64} {w7 : Nat → Int64} {w8 : Nat → Int64} {w9 : Nat → Int64} : (fun k => (sgX1_weight σ w0 w1 w2 w3 w4 w5 w6 w7 w8 w9).1 (6000 + 16 * k + 3)) = (fun k => σ.1 (6000 + 16 * k + 3)) := by
  funext k
  unfold sgX1_weight
  dsimp only [zI, zL, aI, aL]
  repeat rw [if_neg (by omega)]
theorem sgX1_weight_rpR4 {σ : Sto} {w0 : Int32} {w1 : Int32} {w2 : Int32} {w3 : Int64} {w4 : Nat → Int32} {w5 : Nat → Int32} {w6 : Nat → Int64} {w7 : Nat → Int64} {w8 : Nat → Int64} {w9 : Nat → Int64} : (fun k => (sgX1_weight σ w0 w1 w2 w3 w4 w5 w6 w7 w8 w9).1 (6000 + 16 * k + 4)) = (fun k => σ.1 (6000 + 16 * k + 4)) := by
  funext k
  unfold sgX1_weight
  dsimp only [zI, zL, aI, aL]
  repeat rw [if_neg (by omega)]
theorem sgX1_weight_rpR5 {σ : Sto} {w0 : Int32} {w1 : Int32} {w2 : Int32} {w3 : Int64} {w4 : Nat → Int32} {w5 : Nat → Int32} {w6 : Nat → Int64} {w7 : Nat → Int64} {w8 : Nat → Int64} {w9 : Nat → Int64} : (fun k => (sgX1_weight σ w0 w1 w2 w3 w4 w5 w6 w7 w8 w9).1 (6000 + 16 * k + 5)) = (fun k => σ.1 (6000 + 16 * k + 5)) := by
  funext k
  unfold sgX1_weight
  dsimp only [zI, zL, aI, aL]
  repeat rw [if_neg (by omega)]
theorem sgX1_weight_rpR6 {σ : Sto} {w0 : Int32} {w1 : Int32} {w2 : Int32} {w3 : Int64} {w4 : Nat → Int32} {w5 : Nat → Int32} {w6 : Nat → Int64} {w7 : Nat → Int64} {w8 : Nat → Int64} {w9 : Nat → Int64} : (fun k => (sgX1_weight σ w0 w1 w2 w3 w4 w5 w6 w7 w8 w9).1 (6000 + 16 * k + 6)) = (fun k => σ.1 (6000 + 16 * k + 6)) := by
  funext k
  unfold sgX1_weight
  dsimp only [zI, zL, aI, aL]
  repeat rw [if_neg (by omega)]
theorem sgX1_weight_rpW0 {σ : Sto} {w0 : Int32} {w1 : Int32} {w2 : Int32} {w3 : Int64} {w4 : Nat → Int32} {w5 : Nat → Int32} {w6 : Nat → Int64} {w7 : Nat → Int64} {w8 : Nat → Int64} {w9 : Nat → Int64} : (fun k => (sgX1_weight σ w0 w1 w2 w3 w4 w5 w6 w7 w8 w9).1 (8000 + 16 * k + 0)) = (fun k => σ.1 (8000 + 16 * k + 0)) := by
  funext k
  unfold sgX1_weight
  dsimp only [zI, zL, aI, aL]
  repeat rw [if_neg (by omega)]
theorem sgX1_weight_rpW1 {σ : Sto} {w0 : Int32} {w1 : Int32} {w2 : Int32} {w3 : Int64} {w4 : Nat → Int32} {w5 : Nat → Int32} {w6 : Nat → Int64} {w7 : Nat → Int64} {w8 : Nat → Int64} {w9 : Nat → Int64} : (fun k => (sgX1_weight σ w0 w1 w2 w3 w4 w5 w6 w7 w8 w9).1 (8000 + 16 * k + 1)) = (fun k => σ.1 (8000 + 16 * k + 1)) := by
  funext k
  unfold sgX1_weight
  dsimp only [zI, zL, aI, aL]
  repeat rw [if_neg (by omega)]
theorem sgX1_weight_rpW2 {σ : Sto} {w0 : Int32} {w1 : Int32} {w2 : Int32} {w3 : Int64} {w4 : Nat → Int32} {w5 : Nat → Int32} {w6 : Nat → Int64} {w7 : Nat → Int64} {w8 : Nat → Int64} {w9 : Nat → Int64} : (fun k => (sgX1_weight σ w0 w1 w2 w3 w4 w5 w6 w7 w8 w9).1 (8000 + 16 * k + 2)) = (fun k => σ.1 (8000 + 16 * k + 2)) := by
  funext k
  unfold sgX1_weight
  dsimp only [zI, zL, aI, aL]
  repeat rw [if_neg (by omega)]
theorem sgX1_weight_rgG0 {σ : Sto} {w0 : Int32} {w1 : Int32} {w2 : Int32} {w3 : Int64} {w4 : Nat → Int32} {w5 : Nat → Int32} {w6 : Nat → Int64} {w7 : Nat → Int64} {w8 : Nat → Int64} {w9 : Nat → Int64} : (fun k => (sgX1_weight σ w0 w1 w2 w3 w4 w5 w6 w7 w8 w9).2.2.1 (4000 + 16 * k)) = (fun k => σ.2.2.1 (4000 + 16 * k)) := by
  funext k
  unfold sgX1_weight
  dsimp only [zI, zL, aI, aL]
  repeat rw [if_neg (by omega)]
abbrev rmX1_weight : Room := { frames := 49, cells := 0, slots := 0, locals := 1337 }
set_option maxHeartbeats 4000000 in
theorem wkX1_weight {x1 : Int32} {r_ : Int64} {w_zI1018 : Int32} {w_zI1062 : Int32} {w_zI1082 : Int32} {w_zL1052 : Int64} {w_aI1108 : Nat → Int32} {w_aI1162 : Nat → Int32} {w_aL1140 : Nat → Int64} {w_aL1141 : Nat → Int64} {w_aL1150 : Nat → Int64} {w_aL1152 : Nat → Int64} (E : EN p s m args meth c0 RX1 cX1_weight 2 (Option.some Jvm.ClassFile.FieldType.long)) (hX : KX D G ad A s s.heap) (hD : XD dsc nr nw nu) (hA : ∀ q, PA dsc ad s.heap.size q → A q) (hf : xo_X1_weight (σ.1 1018) (σ.1 1062) (σ.1 1082) (σ.1 2008) (σ.1 2009) (σ.1 2012) (σ.1 2013) (σ.1 2027) (σ.1 2032) (σ.2.1 1052) (σ.2.1 1061) (σ.2.1 1081) (σ.2.2.1 1108) (σ.2.2.1 1162) (σ.2.2.1 1170) (σ.2.2.1 2036) (σ.2.2.1 2037) (σ.2.2.1 2042) (σ.2.2.1 2043) (σ.2.2.2.1 1140) (σ.2.2.2.1 1141) (σ.2.2.2.1 1150) (σ.2.2.2.1 1152) nr nw (fun k => σ.1 (6000 + 16 * k + 2)) (fun k => σ.1 (6000 + 16 * k + 3)) (fun k => σ.1 (6000 + 16 * k + 4)) (fun k => σ.1 (6000 + 16 * k + 5)) (fun k => σ.1 (6000 + 16 * k + 6)) (fun k => σ.1 (8000 + 16 * k + 0)) (fun k => σ.1 (8000 + 16 * k + 1)) (fun k => σ.1 (8000 + 16 * k + 2)) (fun k => σ.2.2.1 (4000 + 16 * k)) x1 = some (r_, w_zI1018, w_zI1062, w_zI1082, w_zL1052, w_aI1108, w_aI1162, w_aL1140, w_aL1141, w_aL1150, w_aL1152)) (hQ : Q = MQ below (va_G1 (some (.long r_)) (fun t => PIC D clsA G dsc ad (sgX1_weight σ w_zI1018 w_zI1062 w_zI1082 w_zL1052 w_aI1108 w_aI1162 w_aL1140 w_aL1141 w_aL1150 w_aL1152) t.heap) A) args s 0 0 A) (hP : PIC D clsA G dsc ad σ H) (hS : va_S A s.heap H locs) (hl : lv_has ls 2 [(0, .ref (ad 1000)), (1, .int x1)]) : W p l e rmX1_weight s m args below meth c0 H locs 0 0 Q (F0 m 0 ls []) := by
  obtain ⟨⟨hx, hb, hml, hown, hts⟩, hr, hlk⟩ := id E
  have hP := hP.to (sgX1_weight_self σ).symm
  unfold xo_X1_weight at hf
  refine lv_aload_n hx hb dX1_weight_0 rfl (lv_at hl 0 rfl) ?_
  refine lv_iload_n hx hb dX1_weight_1 rfl (lv_at hl 1 rfl) ?_
  obtain ⟨v1, u2, hf⟩ := bdP hf
  refine cx_X1_270_X1_isWorld E hX hD hP hS hA (kxX1_isWorld l D G hD sgX1_weight_rzI2027 u2) ⟨rfl, rfl⟩ ⟨Nat.le_of_ble_eq_true rfl, Nat.le_of_ble_eq_true rfl⟩ ⟨Nat.zero_le _, Nat.zero_le _⟩ hl.1 (Nat.le_of_ble_eq_true rfl) dX1_weight_2 (fun H locs hP hS => ?_)
  refine lv_if_ne (tgt := 12) hx hb dX1_weight_5 (by decide) (fun c3 => ?_) (fun c3 => ?_)
  · have hf := ifF c3 hf
    refine lv_aload_n hx hb dX1_weight_12 rfl (lv_at hl 0 rfl) ?_
    obtain ⟨⟨z4, z5, z6, z7, a8, a9, a10, a11, a12, a13⟩, u14, hf⟩ := bdP hf
    dsimp only at hf
    refine cx_X1_276_X1_lay E hX hD hP hS hA (kxX1_lay l D G hD sgX1_weight_rzI1018 sgX1_weight_rzI1062 sgX1_weight_rzI1082 sgX1_weight_rzI2008 sgX1_weight_rzI2009 sgX1_weight_rzI2012 sgX1_weight_rzI2013 sgX1_weight_rzI2027 sgX1_weight_rzI2032 sgX1_weight_rzL1052 sgX1_weight_rzL1061 sgX1_weight_rzL1081 sgX1_weight_raI1108 sgX1_weight_raI1162 sgX1_weight_raI1170 sgX1_weight_raI2036 sgX1_weight_raI2037 sgX1_weight_raI2042 sgX1_weight_raI2043 sgX1_weight_raL1140 sgX1_weight_raL1141 sgX1_weight_raL1150 sgX1_weight_raL1152 rfl rfl sgX1_weight_rpR2 sgX1_weight_rpR3 sgX1_weight_rpR4 sgX1_weight_rpR5 sgX1_weight_rpR6 sgX1_weight_rpW0 sgX1_weight_rpW1 sgX1_weight_rpW2 sgX1_weight_rgG0 u14) ⟨rfl, rfl⟩ ⟨Nat.le_of_ble_eq_true rfl, Nat.le_of_ble_eq_true rfl⟩ ⟨Nat.zero_le _, Nat.zero_le _⟩ hl.1 (Nat.le_of_ble_eq_true rfl) dX1_weight_13 (fun H locs hP hS => ?_)
    rw [sgX1_weight_zI1018, sgX1_weight_zI1062, sgX1_weight_zI1082, sgX1_weight_zL1052, sgX1_weight_aI1108, sgX1_weight_aI1162, sgX1_weight_aL1140, sgX1_weight_aL1141, sgX1_weight_aL1150, sgX1_weight_aL1152] at hP
    refine lv_aload_n hx hb dX1_weight_16 rfl (lv_at hl 0 rfl) ?_
    refine gx_X1_40_1000 E hX hD hP dX1_weight_17 ?_
    refine gx_X1_278_1050 E hX hD hP dX1_weight_20 ?_
    refine lv_iload_n hx hb dX1_weight_23 rfl (lv_at hl 1 rfl) ?_
    obtain ⟨v15, hv15, hf⟩ := bdP hf
    refine p_lald hx hb hX.1 hP (hD.1 _ _ dX_1140) sgX1_weight_raL1140 hv15 dX1_weight_24 ?_
    cases hf
    rw [hQ]; exact g_lret hx hb hr hlk hP hS dX1_weight_25
  · have hf := ifT c3 hf
    refine lv_ldc2 hx hb hown (hts _ q996) dX1_weight_8 ?_
    cases hf
    rw [hQ]; exact g_lret hx hb hr hlk hP hS dX1_weight_11
theorem kxX1_weight (l : Launch) (D : va_G) (G : Nat → ClassId) {dsc : Nat → Option Dsc} {ad : Nat → Nat} {σ : Sto} {nr nw nu : Nat} (hD : XD dsc nr nw nu) {x1 : Int32} {r_ : Int64} {w_zI1018 : Int32} {w_zI1062 : Int32} {w_zI1082 : Int32} {w_zL1052 : Int64} {w_aI1108 : Nat → Int32} {w_aI1162 : Nat → Int32} {w_aL1140 : Nat → Int64} {w_aL1141 : Nat → Int64} {w_aL1150 : Nat → Int64} {w_aL1152 : Nat → Int64} {z_X_isLaid : Int32} (e_zI1018 : σ.1 1018 = z_X_isLaid) {z_TB_by : Int32} (e_zI1062 : σ.1 1062 = z_TB_by) {z_TS_by : Int32} (e_zI1082 : σ.1 1082 = z_TS_by) {z_L_places : Int32} (e_zI2008 : σ.1 2008 = z_L_places) {z_L_causes : Int32} (e_zI2009 : σ.1 2009 = z_L_causes) {z_L_from : Int32} (e_zI2012 : σ.1 2012 = z_L_from) {z_L_to : Int32} (e_zI2013 : σ.1 2013 = z_L_to) {z_Ld_size : Int32} (e_zI2027 : σ.1 2027 = z_Ld_size) {z_Lw_size : Int32} (e_zI2032 : σ.1 2032 = z_Lw_size) {z_W_all : Int64} (e_zL1052 : σ.2.1 1052 = z_W_all) {z_TB_none : Int64} (e_zL1061 : σ.2.1 1061 = z_TB_none) {z_TS_none : Int64} (e_zL1081 : σ.2.1 1081 = z_TS_none) {a_X_knowing : Nat → Int32} (e_aI1108 : σ.2.2.1 1108 = a_X_knowing) {a_p3_far : Nat → Int32} (e_aI1162 : σ.2.2.1 1162 = a_p3_far) {a_UNIT : Nat → Int32} (e_aI1170 : σ.2.2.1 1170 = a_UNIT) {a_Ld_data : Nat → Int32} (e_aI2036 : σ.2.2.1 2036 = a_Ld_data) {a_Lw_data : Nat → Int32} (e_aI2037 : σ.2.2.1 2037 = a_Lw_data) {a_L_comes : Nat → Int32} (e_aI2042 : σ.2.2.1 2042 = a_L_comes) {a_L_seen : Nat → Int32} (e_aI2043 : σ.2.2.1 2043 = a_L_seen) {a_W_world : Nat → Int64} (e_aL1140 : σ.2.2.2.1 1140 = a_W_world) {a_W_likely : Nat → Int64} (e_aL1141 : σ.2.2.2.1 1141 = a_W_likely) {a_TB_value : Nat → Int64} (e_aL1150 : σ.2.2.2.1 1150 = a_TB_value) {a_TS_value : Nat → Int64} (e_aL1152 : σ.2.2.2.1 1152 = a_TS_value) {n_r : Nat} (e_nN0 : nr = n_r) {n_w : Nat} (e_nN1 : nw = n_w) {p_road_hours : Nat → Int32} (e_pR2 : (fun k => σ.1 (6000 + 16 * k + 2)) = p_road_hours) {p_road_doubt : Nat → Int32} (e_pR3 : (fun k => σ.1 (6000 + 16 * k + 3)) = p_road_doubt) {p_road_cause : Nat → Int32} (e_pR4 : (fun k => σ.1 (6000 + 16 * k + 4)) = p_road_cause) {p_road_wait : Nat → Int32} (e_pR5 : (fun k => σ.1 (6000 + 16 * k + 5)) = p_road_wait) {p_road_number : Nat → Int32} (e_pR6 : (fun k => σ.1 (6000 + 16 * k + 6)) = p_road_number) {p_word_place : Nat → Int32} (e_pW0 : (fun k => σ.1 (8000 + 16 * k + 0)) = p_word_place) {p_word_road : Nat → Int32} (e_pW1 : (fun k => σ.1 (8000 + 16 * k + 1)) = p_word_road) {p_word_hours : Nat → Int32} (e_pW2 : (fun k => σ.1 (8000 + 16 * k + 2)) = p_word_hours) {g_grid : Nat → Nat → Int32} (e_gG0 : (fun k => σ.2.2.1 (4000 + 16 * k)) = g_grid) (hf : xo_X1_weight z_X_isLaid z_TB_by z_TS_by z_L_places z_L_causes z_L_from z_L_to z_Ld_size z_Lw_size z_W_all z_TB_none z_TS_none a_X_knowing a_p3_far a_UNIT a_Ld_data a_Lw_data a_L_comes a_L_seen a_W_world a_W_likely a_TB_value a_TS_value n_r n_w p_road_hours p_road_doubt p_road_cause p_road_wait p_road_number p_word_place p_word_road p_word_hours g_grid x1 = some (r_, w_zI1018, w_zI1062, w_zI1082, w_zL1052, w_aI1108, w_aI1162, w_aL1140, w_aL1141, w_aL1150, w_aL1152)) : CtG l D G dsc ad yX1_weight (ws_ yX1_weight cX1_weight 2 (Option.some Jvm.ClassFile.FieldType.long)) rmX1_weight [.ref (ad 1000), .int x1] σ (some (.long r_)) (aL (aL (aL (aL (aI (aI (zL (zI (zI (zI σ 1018 w_zI1018) 1062 w_zI1062) 1082 w_zI1082) 1052 w_zL1052) 1108 w_aI1108) 1162 w_aI1162) 1140 w_aL1140) 1141 w_aL1141) 1150 w_aL1150) 1152 w_aL1152) := by
  subst e_zI1018
  subst e_zI1062
  subst e_zI1082
  subst e_zI2008
  subst e_zI2009
  subst e_zI2012
  subst e_zI2013
  subst e_zI2027
  subst e_zI2032
  subst e_zL1052
  subst e_zL1061
  subst e_zL1081
  subst e_aI1108
  subst e_aI1162
  subst e_aI1170
  subst e_aI2036
  subst e_aI2037
  subst e_aI2042
  subst e_aI2043
  subst e_aL1140
  subst e_aL1141
  subst e_aL1150
  subst e_aL1152
  subst e_nN0
  subst e_nN1
  subst e_pR2
  subst e_pR3
  subst e_pR4
  subst e_pR5
  subst e_pR6
  subst e_pW0
  subst e_pW1
  subst e_pW2
  subst e_gG0
  exact p_ctG (by decide +kernel) (Nat.le_of_ble_eq_true rfl) (fun p e s m below meth c0 ls A E hP hX hA hS hl => wkX1_weight E hX hD hA hf rfl hP hS hl)
theorem cx_X1_299_X9_worst_p0 {rm : Room} {σ1 : Sto} {r : Int32} (E : EN p s m args meth c0 RX1 cc nL ret) (hX : KX D G ad A s s.heap) (hD : XD dsc nr nw nu) (hP : PIC D clsA G dsc ad σ H) (hS : va_S A s.heap H locs) (hA : ∀ q, PA dsc ad s.heap.size q → A q) (hM : CtG l D G dsc ad yX9_worst (ws_ yX9_worst cX9_worst 4 (Option.some Jvm.ClassFile.FieldType.int)) rm [.ref (ad 1400)] σ (some (.int r)) σ1) (hz : rm.cells = 0 ∧ rm.slots = 0) (hR : rm.frames + 1 ≤ R.frames ∧ 8 + (4 + 11) + rm.locals ≤ R.locals) (hcs : cells ≤ R.cells ∧ slots ≤ R.slots) (hsz : ls.size = nL) (hW : (rest.map fun v => v.category).sum ≤ 8) (hdg : decode cc pc = .ok (.invokevirtual 299, 3)) (kk : ∀ (H1 : Heap) (locs1 : List Loc), PIC D clsA G dsc ad σ1 H1 → va_S A s.heap H1 locs1 → W p l e R s m args below meth c0 H1 locs1 cells slots Q (F0 m (pc + 3) ls (.int r :: rest))) : W p l e R s m args below meth c0 H locs cells slots Q (F0 m pc ls (.ref (ad 1400) :: rest)) :=
  p_gU (As := []) (rest := rest) E.1 hX hP hS hA hM (cw_any (owner := "ShutPasses$Plan") (x := ⟨"ShutPasses$Plan", "worst", "()I"⟩) (y := yX9_worst) (C := "ShutPasses$ByTable") (index := 299) (own := RX1) 0 E.1.2.2.2.2 (lw_meth q1273) rfl hz.1 hz.2 (E.1.2.2.2.2 _ q1265) (E.1.2.2.2.2 _ q1267) (va_Decl.of (E.1.2.2.2.2 _ q1266) (E.1.2.2.2.2 _ q1273)) (E.1.2.2.2.2 _ q1269) (E.1.2.2.2.2 _ q1266) (E.1.2.2.2.2 _ q135) (by decide +kernel) hR) (hD.1 _ _ dX_1400) rfl rfl rfl hsz rfl hW hdg hcs kk
theorem cx_X1_299_X9_worst_p2 {rm : Room} {σ1 : Sto} {r : Int32} (E : EN p s m args meth c0 RX1 cc nL ret) (hX : KX D G ad A s s.heap) (hD : XD dsc nr nw nu) (hP : PIC D clsA G dsc ad σ H) (hS : va_S A s.heap H locs) (hA : ∀ q, PA dsc ad s.heap.size q → A q) (hM : CtG l D G dsc ad yX9_worst (ws_ yX9_worst cX9_worst 4 (Option.some Jvm.ClassFile.FieldType.int)) rm [.ref (ad 1432)] σ (some (.int r)) σ1) (hz : rm.cells = 0 ∧ rm.slots = 0) (hR : rm.frames + 1 ≤ R.frames ∧ 8 + (4 + 11) + rm.locals ≤ R.locals) (hcs : cells ≤ R.cells ∧ slots ≤ R.slots) (hsz : ls.size = nL) (hW : (rest.map fun v => v.category).sum ≤ 8) (hdg : decode cc pc = .ok (.invokevirtual 299, 3)) (kk : ∀ (H1 : Heap) (locs1 : List Loc), PIC D clsA G dsc ad σ1 H1 → va_S A s.heap H1 locs1 → W p l e R s m args below meth c0 H1 locs1 cells slots Q (F0 m (pc + 3) ls (.int r :: rest))) : W p l e R s m args below meth c0 H locs cells slots Q (F0 m pc ls (.ref (ad 1432) :: rest)) :=
  p_gU (As := []) (rest := rest) E.1 hX hP hS hA hM (cw_any (owner := "ShutPasses$Plan") (x := ⟨"ShutPasses$Plan", "worst", "()I"⟩) (y := yX9_worst) (C := "ShutPasses$ByTable") (index := 299) (own := RX1) 0 E.1.2.2.2.2 (lw_meth q1273) rfl hz.1 hz.2 (E.1.2.2.2.2 _ q1265) (E.1.2.2.2.2 _ q1267) (va_Decl.of (E.1.2.2.2.2 _ q1266) (E.1.2.2.2.2 _ q1273)) (E.1.2.2.2.2 _ q1269) (E.1.2.2.2.2 _ q1266) (E.1.2.2.2.2 _ q135) (by decide +kernel) hR) (hD.1 _ _ dX_1432) rfl rfl rfl hsz rfl hW hdg hcs kk
theorem cx_X1_299_X9_worst_p3 {rm : Room} {σ1 : Sto} {r : Int32} (E : EN p s m args meth c0 RX1 cc nL ret) (hX : KX D G ad A s s.heap) (hD : XD dsc nr nw nu) (hP : PIC D clsA G dsc ad σ H) (hS : va_S A s.heap H locs) (hA : ∀ q, PA dsc ad s.heap.size q → A q) (hM : CtG l D G dsc ad yX9_worst (ws_ yX9_worst cX9_worst 4 (Option.some Jvm.ClassFile.FieldType.int)) rm [.ref (ad 1448)] σ (some (.int r)) σ1) (hz : rm.cells = 0 ∧ rm.slots = 0) (hR : rm.frames + 1 ≤ R.frames ∧ 8 + (4 + 11) + rm.locals ≤ R.locals) (hcs : cells ≤ R.cells ∧ slots ≤ R.slots) (hsz : ls.size = nL) (hW : (rest.map fun v => v.category).sum ≤ 8) (hdg : decode cc pc = .ok (.invokevirtual 299, 3)) (kk : ∀ (H1 : Heap) (locs1 : List Loc), PIC D clsA G dsc ad σ1 H1 → va_S A s.heap H1 locs1 → W p l e R s m args below meth c0 H1 locs1 cells slots Q (F0 m (pc + 3) ls (.int r :: rest))) : W p l e R s m args below meth c0 H locs cells slots Q (F0 m pc ls (.ref (ad 1448) :: rest)) :=
  p_gU (As := []) (rest := rest) E.1 hX hP hS hA hM (cw_any (owner := "ShutPasses$Plan") (x := ⟨"ShutPasses$Plan", "worst", "()I"⟩) (y := yX9_worst) (C := "ShutPasses$Hope") (index := 299) (own := RX1) 0 E.1.2.2.2.2 (lw_meth q1273) rfl hz.1 hz.2 (E.1.2.2.2.2 _ q1265) (E.1.2.2.2.2 _ q1267) (va_Decl.of (E.1.2.2.2.2 _ q1266) (E.1.2.2.2.2 _ q1273)) (E.1.2.2.2.2 _ q1271) (E.1.2.2.2.2 _ q1266) (E.1.2.2.2.2 _ q135) (by decide +kernel) hR) (hD.1 _ _ dX_1448) rfl rfl rfl hsz rfl hW hdg hcs kk
theorem cx_X1_299_X9_worst_p4 {rm : Room} {σ1 : Sto} {r : Int32} (E : EN p s m args meth c0 RX1 cc nL ret) (hX : KX D G ad A s s.heap) (hD : XD dsc nr nw nu) (hP : PIC D clsA G dsc ad σ H) (hS : va_S A s.heap H locs) (hA : ∀ q, PA dsc ad s.heap.size q → A q) (hM : CtG l D G dsc ad yX9_worst (ws_ yX9_worst cX9_worst 4 (Option.some Jvm.ClassFile.FieldType.int)) rm [.ref (ad 1464)] σ (some (.int r)) σ1) (hz : rm.cells = 0 ∧ rm.slots = 0) (hR : rm.frames + 1 ≤ R.frames ∧ 8 + (4 + 11) + rm.locals ≤ R.locals) (hcs : cells ≤ R.cells ∧ slots ≤ R.slots) (hsz : ls.size = nL) (hW : (rest.map fun v => v.category).sum ≤ 8) (hdg : decode cc pc = .ok (.invokevirtual 299, 3)) (kk : ∀ (H1 : Heap) (locs1 : List Loc), PIC D clsA G dsc ad σ1 H1 → va_S A s.heap H1 locs1 → W p l e R s m args below meth c0 H1 locs1 cells slots Q (F0 m (pc + 3) ls (.int r :: rest))) : W p l e R s m args below meth c0 H locs cells slots Q (F0 m pc ls (.ref (ad 1464) :: rest)) :=
  p_gU (As := []) (rest := rest) E.1 hX hP hS hA hM (cw_any (owner := "ShutPasses$Plan") (x := ⟨"ShutPasses$Plan", "worst", "()I"⟩) (y := yX9_worst) (C := "ShutPasses$Fear") (index := 299) (own := RX1) 0 E.1.2.2.2.2 (lw_meth q1273) rfl hz.1 hz.2 (E.1.2.2.2.2 _ q1265) (E.1.2.2.2.2 _ q1267) (va_Decl.of (E.1.2.2.2.2 _ q1266) (E.1.2.2.2.2 _ q1273)) (E.1.2.2.2.2 _ q1270) (E.1.2.2.2.2 _ q1266) (E.1.2.2.2.2 _ q135) (by decide +kernel) hR) (hD.1 _ _ dX_1464) rfl rfl rfl hsz rfl hW hdg hcs kk
theorem cx_X1_299_X9_worst_p5 {rm : Room} {σ1 : Sto} {r : Int32} (E : EN p s m args meth c0 RX1 cc nL ret) (hX : KX D G ad A s s.heap) (hD : XD dsc nr nw nu) (hP : PIC D clsA G dsc ad σ H) (hS : va_S A s.heap H locs) (hA : ∀ q, PA dsc ad s.heap.size q → A q) (hM : CtG l D G dsc ad yX9_worst (ws_ yX9_worst cX9_worst 4 (Option.some Jvm.ClassFile.FieldType.int)) rm [.ref (ad 1480)] σ (some (.int r)) σ1) (hz : rm.cells = 0 ∧ rm.slots = 0) (hR : rm.frames + 1 ≤ R.frames ∧ 8 + (4 + 11) + rm.locals ≤ R.locals) (hcs : cells ≤ R.cells ∧ slots ≤ R.slots) (hsz : ls.size = nL) (hW : (rest.map fun v => v.category).sum ≤ 8) (hdg : decode cc pc = .ok (.invokevirtual 299, 3)) (kk : ∀ (H1 : Heap) (locs1 : List Loc), PIC D clsA G dsc ad σ1 H1 → va_S A s.heap H1 locs1 → W p l e R s m args below meth c0 H1 locs1 cells slots Q (F0 m (pc + 3) ls (.int r :: rest))) : W p l e R s m args below meth c0 H locs cells slots Q (F0 m pc ls (.ref (ad 1480) :: rest)) :=
  p_gU (As := []) (rest := rest) E.1 hX hP hS hA hM (cw_any (owner := "ShutPasses$Plan") (x := ⟨"ShutPasses$Plan", "worst", "()I"⟩) (y := yX9_worst) (C := "ShutPasses$Tries") (index := 299) (own := RX1) 0 E.1.2.2.2.2 (lw_meth q1273) rfl hz.1 hz.2 (E.1.2.2.2.2 _ q1265) (E.1.2.2.2.2 _ q1267) (va_Decl.of (E.1.2.2.2.2 _ q1266) (E.1.2.2.2.2 _ q1273)) (E.1.2.2.2.2 _ q1272) (E.1.2.2.2.2 _ q1266) (E.1.2.2.2.2 _ q135) (by decide +kernel) hR) (hD.1 _ _ dX_1480) rfl rfl rfl hsz rfl hW hdg hcs kk
theorem cx_X1_299_X9_worst_p6 {rm : Room} {σ1 : Sto} {r : Int32} (E : EN p s m args meth c0 RX1 cc nL ret) (hX : KX D G ad A s s.heap) (hD : XD dsc nr nw nu) (hP : PIC D clsA G dsc ad σ H) (hS : va_S A s.heap H locs) (hA : ∀ q, PA dsc ad s.heap.size q → A q) (hM : CtG l D G dsc ad yX9_worst (ws_ yX9_worst cX9_worst 4 (Option.some Jvm.ClassFile.FieldType.int)) rm [.ref (ad 1496)] σ (some (.int r)) σ1) (hz : rm.cells = 0 ∧ rm.slots = 0) (hR : rm.frames + 1 ≤ R.frames ∧ 8 + (4 + 11) + rm.locals ≤ R.locals) (hcs : cells ≤ R.cells ∧ slots ≤ R.slots) (hsz : ls.size = nL) (hW : (rest.map fun v => v.category).sum ≤ 8) (hdg : decode cc pc = .ok (.invokevirtual 299, 3)) (kk : ∀ (H1 : Heap) (locs1 : List Loc), PIC D clsA G dsc ad σ1 H1 → va_S A s.heap H1 locs1 → W p l e R s m args below meth c0 H1 locs1 cells slots Q (F0 m (pc + 3) ls (.int r :: rest))) : W p l e R s m args below meth c0 H locs cells slots Q (F0 m pc ls (.ref (ad 1496) :: rest)) :=
  p_gU (As := []) (rest := rest) E.1 hX hP hS hA hM (cw_any (owner := "ShutPasses$Plan") (x := ⟨"ShutPasses$Plan", "worst", "()I"⟩) (y := yX9_worst) (C := "ShutPasses$ByHand") (index := 299) (own := RX1) 0 E.1.2.2.2.2 (lw_meth q1273) rfl hz.1 hz.2 (E.1.2.2.2.2 _ q1265) (E.1.2.2.2.2 _ q1267) (va_Decl.of (E.1.2.2.2.2 _ q1266) (E.1.2.2.2.2 _ q1273)) (E.1.2.2.2.2 _ q1268) (E.1.2.2.2.2 _ q1266) (E.1.2.2.2.2 _ q135) (by decide +kernel) hR) (hD.1 _ _ dX_1496) rfl rfl rfl hsz rfl hW hdg hcs kk
theorem cx_X1_299_D {v : Int32} {r : Int32} {w_aI1160 : Nat → Int32} {w_aI1162 : Nat → Int32} {w_aI1163 : Nat → Int32} (E : EN p s m args meth c0 RX1 cc nL ret) (hX : KX D G ad A s s.heap) (hD : XD dsc nr nw nu) (hP : PIC D clsA G dsc ad σ H) (hS : va_S A s.heap H locs) (hA : ∀ q, PA dsc ad s.heap.size q → A q) {z_TB_by : Int32} (e_zI1062 : σ.1 1062 = z_TB_by) {z_TS_by : Int32} (e_zI1082 : σ.1 1082 = z_TS_by) {z_TF_by : Int32} (e_zI1092 : σ.1 1092 = z_TF_by) {z_TF_times : Int32} (e_zI1094 : σ.1 1094 = z_TF_times) {z_TF_of : Int32} (e_zI1095 : σ.1 1095 = z_TF_of) {z_ru_size : Int32} (e_zI1262 : σ.1 1262 = z_ru_size) {z_p5_many : Int32} (e_zI1485 : σ.1 1485 = z_p5_many) {z_L_places : Int32} (e_zI2008 : σ.1 2008 = z_L_places) {z_L_from : Int32} (e_zI2012 : σ.1 2012 = z_L_from) {z_L_to : Int32} (e_zI2013 : σ.1 2013 = z_L_to) {z_Ld_size : Int32} (e_zI2027 : σ.1 2027 = z_Ld_size) {z_Lw_size : Int32} (e_zI2032 : σ.1 2032 = z_Lw_size) {z_TB_none : Int64} (e_zL1061 : σ.2.1 1061 = z_TB_none) {z_TS_none : Int64} (e_zL1081 : σ.2.1 1081 = z_TS_none) {z_TF_none : Int64} (e_zL1091 : σ.2.1 1091 = z_TF_none) {a_X_knowing : Nat → Int32} (e_aI1108 : σ.2.2.1 1108 = a_X_knowing) {a_p5_far : Nat → Int32} (e_aI1160 : σ.2.2.1 1160 = a_p5_far) {a_p3_far : Nat → Int32} (e_aI1162 : σ.2.2.1 1162 = a_p3_far) {a_p4_far : Nat → Int32} (e_aI1163 : σ.2.2.1 1163 = a_p4_far) {a_p5_row : Nat → Int32} (e_aI1164 : σ.2.2.1 1164 = a_p5_row) {a_UNIT : Nat → Int32} (e_aI1170 : σ.2.2.1 1170 = a_UNIT) {a_ru_data : Nat → Int32} (e_aI1265 : σ.2.2.1 1265 = a_ru_data) {a_Lw_data : Nat → Int32} (e_aI2037 : σ.2.2.1 2037 = a_Lw_data) {a_L_seen : Nat → Int32} (e_aI2043 : σ.2.2.1 2043 = a_L_seen) {a_W_world : Nat → Int64} (e_aL1140 : σ.2.2.2.1 1140 = a_W_world) {a_W_likely : Nat → Int64} (e_aL1141 : σ.2.2.2.1 1141 = a_W_likely) {a_TB_value : Nat → Int64} (e_aL1150 : σ.2.2.2.1 1150 = a_TB_value) {a_TS_value : Nat → Int64} (e_aL1152 : σ.2.2.2.1 1152 = a_TS_value) {a_TF_value : Nat → Int64} (e_aL1153 : σ.2.2.2.1 1153 = a_TF_value) {n_r : Nat} (e_nN0 : nr = n_r) {n_w : Nat} (e_nN1 : nw = n_w) {n_u : Nat} (e_nN2 : nu = n_u) {p_road_hours : Nat → Int32} (e_pR2 : (fun k => σ.1 (6000 + 16 * k + 2)) = p_road_hours) {p_road_wait : Nat → Int32} (e_pR5 : (fun k => σ.1 (6000 + 16 * k + 5)) = p_road_wait) {p_road_number : Nat → Int32} (e_pR6 : (fun k => σ.1 (6000 + 16 * k + 6)) = p_road_number) {p_word_place : Nat → Int32} (e_pW0 : (fun k => σ.1 (8000 + 16 * k + 0)) = p_word_place) {p_word_road : Nat → Int32} (e_pW1 : (fun k => σ.1 (8000 + 16 * k + 1)) = p_word_road) {p_word_hours : Nat → Int32} (e_pW2 : (fun k => σ.1 (8000 + 16 * k + 2)) = p_word_hours) {p_rule_place : Nat → Int32} (e_pU0 : (fun k => σ.1 (10000 + 16 * k + 0)) = p_rule_place) {p_rule_road : Nat → Int32} (e_pU1 : (fun k => σ.1 (10000 + 16 * k + 1)) = p_rule_road) {p_rule_known : Nat → Int32} (e_pU2 : (fun k => σ.1 (10000 + 16 * k + 2)) = p_rule_known) {p_rule_to : Nat → Int32} (e_pU3 : (fun k => σ.1 (10000 + 16 * k + 3)) = p_rule_to) {g_grid : Nat → Nat → Int32} (e_gG0 : (fun k => σ.2.2.1 (4000 + 16 * k)) = g_grid) (hu : xo_D_worst z_TB_by z_TS_by z_TF_by z_TF_times z_TF_of z_ru_size z_p5_many z_L_places z_L_from z_L_to z_Ld_size z_Lw_size z_TB_none z_TS_none z_TF_none a_X_knowing a_p5_far a_p3_far a_p4_far a_p5_row a_UNIT a_ru_data a_Lw_data a_L_seen a_W_world a_W_likely a_TB_value a_TS_value a_TF_value n_r n_w n_u p_road_hours p_road_wait p_road_number p_word_place p_word_road p_word_hours p_rule_place p_rule_road p_rule_known p_rule_to g_grid v = some (r, w_aI1160, w_aI1162, w_aI1163)) (hR : 49 + 1 ≤ R.frames ∧ 8 + (4 + 11) + 1337 ≤ R.locals) (hcs : cells ≤ R.cells ∧ slots ≤ R.slots) (hsz : ls.size = nL) (hW : (rest.map fun v => v.category).sum ≤ 8) (hdg : decode cc pc = .ok (.invokevirtual 299, 3)) (kk : ∀ (H1 : Heap) (locs1 : List Loc), PIC D clsA G dsc ad (aI (aI (aI σ 1160 w_aI1160) 1162 w_aI1162) 1163 w_aI1163) H1 → va_S A s.heap H1 locs1 → W p l e R s m args below meth c0 H1 locs1 cells slots Q (F0 m (pc + 3) ls (.int r :: rest))) : W p l e R s m args below meth c0 H locs cells slots Q (F0 m pc ls (va_rf (drf ad 1400 v) :: rest)) := by
  unfold xo_D_worst at hu
  by_cases h0 : v = 0
  · have hu := ifT h0 hu
    subst h0
    obtain ⟨r1, hv, hu⟩ := bdP hu
    cases hu
    rw [p_rfc (ad := ad) (b := 1400) (v := 0) (c2 := 1400) (by decide) (by decide)]
    refine cx_X1_299_X9_worst_p0 E hX hD hP hS hA (kxX9_worst_p0 l D G hD e_zI1062 e_zI2008 e_zI2012 e_zI2013 e_zI2027 e_zI2032 e_zL1061 e_aI1170 e_aI2037 e_aI2043 e_aL1140 e_aL1141 e_aL1150 e_nN0 e_nN1 e_pR2 e_pR5 e_pR6 e_pW0 e_pW1 e_pW2 e_gG0 hv) ⟨rfl, rfl⟩ ⟨Nat.le_trans (Nat.le_of_ble_eq_true rfl) hR.1, Nat.le_trans (Nat.le_of_ble_eq_true rfl) hR.2⟩ hcs hsz hW hdg (fun H1 locs1 hP1 hS1 => kk H1 locs1 (hP1.to ?_) hS1)
    exact ((((((rfl).trans (aI_selfE (by rw [← e_aI1160] <;> rfl)).symm)).trans (aI_selfE (by rw [← e_aI1162] <;> rfl)).symm)).trans (aI_selfE (by rw [← e_aI1163] <;> rfl)).symm)
  have hu := ifF h0 hu
  by_cases h1 : v = 1
  · have hu := ifT h1 hu
    subst h1
    obtain ⟨r1, hv, hu⟩ := bdP hu
    cases hu
    rw [p_rfc (ad := ad) (b := 1400) (v := 1) (c2 := 1416) (by decide) (by decide)]
    refine cx_X1_299_X9_worst_p1 E hX hD hP hS hA (kxX9_worst_p1 l D G hD e_zI1082 e_zI2008 e_zI2012 e_zI2013 e_zI2027 e_zI2032 e_zL1081 e_aI1170 e_aI2037 e_aI2043 e_aL1140 e_aL1141 e_aL1152 e_nN0 e_nN1 e_pR2 e_pR5 e_pR6 e_pW0 e_pW1 e_pW2 e_gG0 hv) ⟨rfl, rfl⟩ ⟨Nat.le_trans (Nat.le_of_ble_eq_true rfl) hR.1, Nat.le_trans (Nat.le_of_ble_eq_true rfl) hR.2⟩ hcs hsz hW hdg (fun H1 locs1 hP1 hS1 => kk H1 locs1 (hP1.to ?_) hS1)
    exact ((((((rfl).trans (aI_selfE (by rw [← e_aI1160] <;> rfl)).symm)).trans (aI_selfE (by rw [← e_aI1162] <;> rfl)).symm)).trans (aI_selfE (by rw [← e_aI1163] <;> rfl)).symm)
  have hu := ifF h1 hu
  by_cases h2 : v = 2
  · have hu := ifT h2 hu
    subst h2
    obtain ⟨r1, hv, hu⟩ := bdP hu
    cases hu
    rw [p_rfc (ad := ad) (b := 1400) (v := 2) (c2 := 1432) (by decide) (by decide)]
    refine cx_X1_299_X9_worst_p2 E hX hD hP hS hA (kxX9_worst_p2 l D G hD e_zI1092 e_zI1094 e_zI1095 e_zI2008 e_zI2012 e_zI2013 e_zI2027 e_zI2032 e_zL1091 e_aI1108 e_aI1170 e_aI2037 e_aI2043 e_aL1140 e_aL1141 e_aL1153 e_nN0 e_nN1 e_pR2 e_pR5 e_pR6 e_pW0 e_pW1 e_pW2 e_gG0 hv) ⟨rfl, rfl⟩ ⟨Nat.le_trans (Nat.le_of_ble_eq_true rfl) hR.1, Nat.le_trans (Nat.le_of_ble_eq_true rfl) hR.2⟩ hcs hsz hW hdg (fun H1 locs1 hP1 hS1 => kk H1 locs1 (hP1.to ?_) hS1)
    exact ((((((rfl).trans (aI_selfE (by rw [← e_aI1160] <;> rfl)).symm)).trans (aI_selfE (by rw [← e_aI1162] <;> rfl)).symm)).trans (aI_selfE (by rw [← e_aI1163] <;> rfl)).symm)
  have hu := ifF h2 hu
  by_cases h3 : v = 3
  · have hu := ifT h3 hu
    subst h3
    obtain ⟨⟨r1, faI1162⟩, hv, hu⟩ := bdP hu
    cases hu
    rw [p_rfc (ad := ad) (b := 1400) (v := 3) (c2 := 1448) (by decide) (by decide)]
    refine cx_X1_299_X9_worst_p3 E hX hD hP hS hA (kxX9_worst_p3 l D G hD e_zI2008 e_zI2012 e_zI2013 e_zI2027 e_zI2032 e_aI1162 e_aI1170 e_aI2037 e_aI2043 e_aL1140 e_nN0 e_nN1 e_pR2 e_pR5 e_pR6 e_pW1 e_pW2 e_gG0 hv) ⟨rfl, rfl⟩ ⟨Nat.le_trans (Nat.le_of_ble_eq_true rfl) hR.1, Nat.le_trans (Nat.le_of_ble_eq_true rfl) hR.2⟩ hcs hsz hW hdg (fun H1 locs1 hP1 hS1 => kk H1 locs1 (hP1.to ?_) hS1)
    exact (((congrArg (fun z => aI z 1162 _) ((rfl).trans (aI_selfE (by rw [← e_aI1160] <;> rfl)).symm))).trans (aI_selfE (by rw [← e_aI1163] <;> rfl)).symm)
  have hu := ifF h3 hu
  by_cases h4 : v = 4
  · have hu := ifT h4 hu
    subst h4
    obtain ⟨⟨r1, faI1163⟩, hv, hu⟩ := bdP hu
    cases hu
    rw [p_rfc (ad := ad) (b := 1400) (v := 4) (c2 := 1464) (by decide) (by decide)]
    refine cx_X1_299_X9_worst_p4 E hX hD hP hS hA (kxX9_worst_p4 l D G hD e_zI2008 e_zI2012 e_zI2013 e_zI2027 e_zI2032 e_aI1163 e_aI1170 e_aI2037 e_aI2043 e_aL1140 e_nN0 e_nN1 e_pR2 e_pR5 e_pR6 e_pW1 e_pW2 e_gG0 hv) ⟨rfl, rfl⟩ ⟨Nat.le_trans (Nat.le_of_ble_eq_true rfl) hR.1, Nat.le_trans (Nat.le_of_ble_eq_true rfl) hR.2⟩ hcs hsz hW hdg (fun H1 locs1 hP1 hS1 => kk H1 locs1 (hP1.to ?_) hS1)
    exact (congrArg (fun z => aI z 1163 _) ((((rfl).trans (aI_selfE (by rw [← e_aI1160] <;> rfl)).symm)).trans (aI_selfE (by rw [← e_aI1162] <;> rfl)).symm))
  have hu := ifF h4 hu
  by_cases h5 : v = 5
  · have hu := ifT h5 hu
    subst h5
    obtain ⟨⟨r1, faI1160⟩, hv, hu⟩ := bdP hu
    cases hu
    rw [p_rfc (ad := ad) (b := 1400) (v := 5) (c2 := 1480) (by decide) (by decide)]
    refine cx_X1_299_X9_worst_p5 E hX hD hP hS hA (kxX9_worst_p5 l D G hD e_zI1485 e_zI2008 e_zI2012 e_zI2013 e_zI2027 e_zI2032 e_aI1160 e_aI1164 e_aI1170 e_aI2037 e_aI2043 e_aL1140 e_nN0 e_nN1 e_pR2 e_pR5 e_pR6 e_pW1 e_pW2 e_gG0 hv) ⟨rfl, rfl⟩ ⟨Nat.le_trans (Nat.le_of_ble_eq_true rfl) hR.1, Nat.le_trans (Nat.le_of_ble_eq_true rfl) hR.2⟩ hcs hsz hW hdg (fun H1 locs1 hP1 hS1 => kk H1 locs1 (hP1.to ?_) hS1)
    exact (((((congrArg (fun z => aI z 1160 _) rfl)).trans (aI_selfE (by rw [← e_aI1162] <;> rfl)).symm)).trans (aI_selfE (by rw [← e_aI1163] <;> rfl)).symm)
  have hu := ifF h5 hu
  by_cases h6 : v = 6
  · have hu := ifT h6 hu
    subst h6
    obtain ⟨r1, hv, hu⟩ := bdP hu
    cases hu
    rw [p_rfc (ad := ad) (b := 1400) (v := 6) (c2 := 1496) (by decide) (by decide)]
    refine cx_X1_299_X9_worst_p6 E hX hD hP hS hA (kxX9_worst_p6 l D G hD e_zI1262 e_zI2012 e_zI2013 e_zI2027 e_zI2032 e_aI1170 e_aI1265 e_aI2037 e_aI2043 e_aL1140 e_nN0 e_nN1 e_nN2 e_pR2 e_pR5 e_pR6 e_pW1 e_pW2 e_pU0 e_pU1 e_pU2 e_pU3 e_gG0 hv) ⟨rfl, rfl⟩ ⟨Nat.le_trans (Nat.le_of_ble_eq_true rfl) hR.1, Nat.le_trans (Nat.le_of_ble_eq_true rfl) hR.2⟩ hcs hsz hW hdg (fun H1 locs1 hP1 hS1 => kk H1 locs1 (hP1.to ?_) hS1)
    exact ((((((rfl).trans (aI_selfE (by rw [← e_aI1160] <;> rfl)).symm)).trans (aI_selfE (by rw [← e_aI1162] <;> rfl)).symm)).trans (aI_selfE (by rw [← e_aI1163] <;> rfl)).symm)
  have hu := ifF h6 hu
  cases hu
/-! X1_worst (I)I -/
def sgX1_worst (σ : Sto) (w0 : Int32) (w1 : Int32) (w2 : Int32) (w3 : Int32) (w4 : Int32) (w5 : Int32) (w6 : Int32) (w7 : Int32) (w8 : Int64) (w9 : Nat → Int32) (w10 : Nat → Int32) (w11 : Nat → Int32) (w12 : Nat → Int32) (w13 : Nat → Int64) (w14 : Nat → Int64) (w15 : Nat → Int64) (w16 : Nat → Int64) (w17 : Nat → Int64) : Sto := aL (aL (aL (aL (aL (aI (aI (aI (aI (zL (zI (zI (zI (zI (zI (zI (zI (zI σ 1018 w0) 1019 w1) 1020 w2) 1062 w3) 1082 w4) 1092 w5) 1094 w6) 1095 w7) 1052 w8) 1108 w9) 1160 w10) 1162 w11) 1163 w12) 1140 w13) 1141 w14) 1150 w15) 1152 w16) 1153 w17
theorem sgX1_worst_self (σ : Sto) : sgX1_worst σ (σ.1 1018) (σ.1 1019) (σ.1 1020) (σ.1 1062) (σ.1 1082) (σ.1 1092) (σ.1 1094) (σ.1 1095) (σ.2.1 1052) (σ.2.2.1 1108) (σ.2.2.1 1160) (σ.2.2.1 1162) (σ.2.2.1 1163) (σ.2.2.2.1 1140) (σ.2.2.2.1 1141) (σ.2.2.2.1 1150) (σ.2.2.2.1 1152) (σ.2.2.2.1 1153) = σ := by
  unfold sgX1_worst
  simp only [zI_self, zL_self, aI_self, aL_self]
theorem sgX1_worst_zI1018 {σ : Sto} {w0 : Int32} {w1 : Int32} {w2 : Int32} {w3 : Int32} {w4 : Int32} {w5 : Int32} {w6 : Int32} {w7 : Int32} {w8 : Int64} {w9 : Nat → Int32} {w10 : Nat → Int32} {w11 : Nat → Int32} {w12 : Nat → Int32} {w13 : Nat → Int64} {w14 : Nat → Int64} {w15 : Nat → Int64} {w16 : Nat → Int64} {w17 : Nat → Int64} {g : Int32} : zI (sgX1_worst σ w0 w1 w2 w3 w4 w5 w6 w7 w8 w9 w10 w11 w12 w13 w14 w15 w16 w17) 1018 g = sgX1_worst σ g w1 w2 w3 w4 w5 w6 w7 w8 w9 w10 w11 w12 w13 w14 w15 w16 w17 := (cm_zI_aL _ _ _ _ _).trans (congrArg (fun z => aL z 1153 w17) ((cm_zI_aL _ _ _ _ _).trans (congrArg (fun z => aL z 1152 w16) ((cm_zI_aL _ _ _ _ _).trans (congrArg (fun z => aL z 1150 w15) ((cm_zI_aL _ _ _ _ _).trans (congrArg (fun z => aL z 1141 w14) ((cm_zI_aL _ _ _ _ _).trans (congrArg (fun z => aL z 1140 w13) ((cm_zI_aI _ _ _ _ _).trans (congrArg (fun z => aI z 1163 w12) ((cm_zI_aI _ _ _ _ _).trans (congrArg (fun z => aI z 1162 w11) ((cm_zI_aI _ _ _ _ _).trans (congrArg (fun z => aI z 1160 w10) ((cm_zI_aI _ _ _ _ _).trans (congrArg (fun z => aI z 1108 w9) ((cm_zI_zL _ _ _ _ _).trans (congrArg (fun z => zL z 1052 w8) ((zI_comm _ (by decide) _ _).trans (congrArg (fun z => zI z 1095 w7) ((zI_comm _ (by decide) _ _).trans (congrArg (fun z => zI z 1094 w6) ((zI_comm _ (by decide) _ _).trans (congrArg (fun z => zI z 1092 w5) ((zI_comm _ (by decide) _ _).trans (congrArg (fun z => zI z 1082 w4) ((zI_comm _ (by decide) _ _).trans (congrArg (fun z => zI z 1062 w3) ((zI_comm _ (by decide) _ _).trans (congrArg (fun z => zI z 1020 w2) ((zI_comm _ (by decide) _ _).trans (congrArg (fun z => zI z 1019 w1) (zI_zI _ 1018 _ _))))))))))))))))))))))))))))))))))
theorem sgX1_worst_zI1019 {σ : Sto} {w0 : Int32} {w1 : Int32} {w2 : Int32} {w3 : Int32} {w4 : Int32} {w5 : Int32} {w6 : Int32} {w7 : Int32} {w8 : Int64} {w9 : Nat → Int32} {w10 : Nat → Int32} {w11 : Nat → Int32} {w12 : Nat → Int32} {w13 : Nat → Int64} {w14 : Nat → Int64} {w15 : Nat → Int64} {w16 : Nat → Int64} {w17 : Nat → Int64} {g : Int32} : zI (sgX1_worst σ w0 w1 w2 w3 w4 w5 w6 w7 w8 w9 w10 w11 w12 w13 w14 w15 w16 w17) 1019 g = sgX1_worst σ w0 g w2 w3 w4 w5 w6 w7 w8 w9 w10 w11 w12 w13 w14 w15 w16 w17 := (cm_zI_aL _ _ _ _ _).trans (congrArg (fun z => aL z 1153 w17) ((cm_zI_aL _ _ _ _ _).trans (congrArg (fun z => aL z 1152 w16) ((cm_zI_aL _ _ _ _ _).trans (congrArg (fun z => aL z 1150 w15) ((cm_zI_aL _ _ _ _ _).trans (congrArg (fun z => aL z 1141 w14) ((cm_zI_aL _ _ _ _ _).trans (congrArg (fun z => aL z 1140 w13) ((cm_zI_aI _ _ _ _ _).trans (congrArg (fun z => aI z 1163 w12) ((cm_zI_aI _ _ _ _ _).trans (congrArg (fun z => aI z 1162 w11) ((cm_zI_aI _ _ _ _ _).trans (congrArg (fun z => aI z 1160 w10) ((cm_zI_aI _ _ _ _ _).trans (congrArg (fun z => aI z 1108 w9) ((cm_zI_zL _ _ _ _ _).trans (congrArg (fun z => zL z 1052 w8) ((zI_comm _ (by decide) _ _).trans (congrArg (fun z => zI z 1095 w7) ((zI_comm _ (by decide) _ _).trans (congrArg (fun z => zI z 1094 w6) ((zI_comm _ (by decide) _ _).trans (congrArg (fun z => zI z 1092 w5) ((zI_comm _ (by decide) _ _).trans (congrArg (fun z => zI z 1082 w4) ((zI_comm _ (by decide) _ _).trans (congrArg (fun z => zI z 1062 w3) ((zI_comm _ (by decide) _ _).trans (congrArg (fun z => zI z 1020 w2) (zI_zI _ 1019 _ _))))))))))))))))))))))))))))))))
theorem sgX1_worst_zI1020 {σ : Sto} {w0 : Int32} {w1 : Int32} {w2 : Int32} {w3 : Int32} {w4 : Int32} {w5 : Int32} {w6 : Int32} {w7 : Int32} {w8 : Int64} {w9 : Nat → Int32} {w10 : Nat → Int32} {w11 : Nat → Int32} {w12 : Nat → Int32} {w13 : Nat → Int64} {w14 : Nat → Int64} {w15 : Nat → Int64} {w16 : Nat → Int64} {w17 : Nat → Int64} {g : Int32} : zI (sgX1_worst σ w0 w1 w2 w3 w4 w5 w6 w7 w8 w9 w10 w11 w12 w13 w14 w15 w16 w17) 1020 g = sgX1_worst σ w0 w1 g w3 w4 w5 w6 w7 w8 w9 w10 w11 w12 w13 w14 w15 w16 w17 := (cm_zI_aL _ _ _ _ _).trans (congrArg (fun z => aL z 1153 w17) ((cm_zI_aL _ _ _ _ _).trans (congrArg (fun z => aL z 1152 w16) ((cm_zI_aL _ _ _ _ _).trans (congrArg (fun z => aL z 1150 w15) ((cm_zI_aL _ _ _ _ _).trans (congrArg (fun z => aL z 1141 w14) ((cm_zI_aL _ _ _ _ _).trans (congrArg (fun z => aL z 1140 w13) ((cm_zI_aI _ _ _ _ _).trans (congrArg (fun z => aI z 1163 w12) ((cm_zI_aI _ _ _ _ _).trans (congrArg (fun z => aI z 1162 w11) ((cm_zI_aI _ _ _ _ _).trans (congrArg (fun z => aI z 1160 w10) ((cm_zI_aI _ _ _ _ _).trans (congrArg (fun z => aI z 1108 w9) ((cm_zI_zL _ _ _ _ _).trans (congrArg (fun z => zL z 1052 w8) ((zI_comm _ (by decide) _ _).trans (congrArg (fun z => zI z 1095 w7) ((zI_comm _ (by decide) _ _).trans (congrArg (fun z => zI z 1094 w6) ((zI_comm _ (by decide) _ _).trans (congrArg (fun z => zI z 1092 w5) ((zI_comm _ (by decide) _ _).trans (congrArg (fun z => zI z 1082 w4) ((zI_comm _ (by decide) _ _).trans (congrArg (fun z => zI z 1062 w3) (zI_zI _ 1020 _ _))))))))))))))))))))))))))))))
theorem sgX1_worst_zI1062 {σ : Sto} {w0 : Int32} {w1 : Int32} {w2 : Int32} {w3 : Int32} {w4 : Int32} {w5 : Int32} {w6 : Int32} {w7 : Int32} {w8 : Int64} {w9 : Nat → Int32} {w10 : Nat → Int32} {w11 : Nat → Int32} {w12 : Nat → Int32} {w13 : Nat → Int64} {w14 : Nat → Int64} {w15 : Nat → Int64} {w16 : Nat → Int64} {w17 : Nat → Int64} {g : Int32} : zI (sgX1_worst σ w0 w1 w2 w3 w4 w5 w6 w7 w8 w9 w10 w11 w12 w13 w14 w15 w16 w17) 1062 g = sgX1_worst σ w0 w1 w2 g w4 w5 w6 w7 w8 w9 w10 w11 w12 w13 w14 w15 w16 w17 := (cm_zI_aL _ _ _ _ _).trans (congrArg (fun z => aL z 1153 w17) ((cm_zI_aL _ _ _ _ _).trans (congrArg (fun z => aL z 1152 w16) ((cm_zI_aL _ _ _ _ _).trans (congrArg (fun z => aL z 1150 w15) ((cm_zI_aL _ _ _ _ _).trans (congrArg (fun z => aL z 1141 w14) ((cm_zI_aL _ _ _ _ _).trans (congrArg (fun z => aL z 1140 w13) ((cm_zI_aI _ _ _ _ _).trans (congrArg (fun z => aI z 1163 w12) ((cm_zI_aI _ _ _ _ _).trans (congrArg (fun z => aI z 1162 w11) ((cm_zI_aI _ _ _ _ _).trans (congrArg (fun z => aI z 1160 w10) ((cm_zI_aI _ _ _ _ _).trans (congrArg (fun z => aI z 1108 w9) ((cm_zI_zL _ _ _ _ _).trans (congrArg (fun z => zL z 1052 w8) ((zI_comm _ (by decide) _ _).trans (congrArg (fun z => zI z 1095 w7) ((zI_comm _ (by decide) _ _).trans (congrArg (fun z => zI z 1094 w6) ((zI_comm _ (by decide) _ _).trans (congrArg (fun z => zI z 1092 w5) ((zI_comm _ (by decide) _ _).trans (congrArg (fun z => zI z 1082 w4) (zI_zI _ 1062 _ _))))))))))))))))))))))))))))
theorem sgX1_worst_zI1082 {σ : Sto} {w0 : Int32} {w1 : Int32} {w2 : Int32} {w3 : Int32} {w4 : Int32} {w5 : Int32} {w6 : Int32} {w7 : Int32} {w8 : Int64} {w9 : Nat → Int32} {w10 : Nat → Int32} {w11 : Nat → Int32} {w12 : Nat → Int32} {w13 : Nat → Int64} {w14 : Nat → Int64} {w15 : Nat → Int64} {w16 : Nat → Int64} {w17 : Nat → Int64} {g : Int32} : zI (sgX1_worst σ w0 w1 w2 w3 w4 w5 w6 w7 w8 w9 w10 w11 w12 w13 w14 w15 w16 w17) 1082 g = sgX1_worst σ w0 w1 w2 w3 g w5 w6 w7 w8 w9 w10 w11 w12 w13 w14 w15 w16 w17 := (cm_zI_aL _ _ _ _ _).trans (congrArg (fun z => aL z 1153 w17) ((cm_zI_aL _ _ _ _ _).trans (congrArg (fun z => aL z 1152 w16) ((cm_zI_aL _ _ _ _ _).trans (congrArg (fun z => aL z 1150 w15) ((cm_zI_aL _ _ _ _ _).trans (congrArg (fun z => aL z 1141 w14) ((cm_zI_aL _ _ _ _ _).trans (congrArg (fun z => aL z 1140 w13) ((cm_zI_aI _ _ _ _ _).trans (congrArg (fun z => aI z 1163 w12) ((cm_zI_aI _ _ _ _ _).trans (congrArg (fun z => aI z 1162 w11) ((cm_zI_aI _ _ _ _ _).trans (congrArg (fun z => aI z 1160 w10) ((cm_zI_aI _ _ _ _ _).trans (congrArg (fun z => aI z 1108 w9) ((cm_zI_zL _ _ _ _ _).trans (congrArg (fun z => zL z 1052 w8) ((zI_comm _ (by decide) _ _).trans (congrArg (fun z => zI z 1095 w7) ((zI_comm _ (by decide) _ _).trans (congrArg (fun z => zI z 1094 w6) ((zI_comm _ (by decide) _ _).trans (congrArg (fun z => zI z 1092 w5) (zI_zI _ 1082 _ _))))))))))))))))))))))))))
theorem sgX1_worst_zI1092 {σ : Sto} {w0 : Int32} {w1 : Int32} {w2 : Int32} {w3 : Int32} {w4 : Int32} {w5 : Int32} {w6 : Int32} {w7 : Int32} {w8 : Int64} {w9 : Nat → Int32} {w10 : Nat → Int32} {w11 : Nat → Int32} {w12 : Nat → Int32} {w13 : Nat → Int64} {w14 : Nat → Int64} {w15 : Nat → Int64} {w16 : Nat → Int64} {w17 : Nat → Int64} {g : Int32} : zI (sgX1_worst σ w0 w1 w2 w3 w4 w5 w6 w7 w8 w9 w10 w11 w12 w13 w14 w15 w16 w17) 1092 g = sgX1_worst σ w0 w1 w2 w3 w4 g w6 w7 w8 w9 w10 w11 w12 w13 w14 w15 w16 w17 := (cm_zI_aL _ _ _ _ _).trans (congrArg (fun z => aL z 1153 w17) ((cm_zI_aL _ _ _ _ _).trans (congrArg (fun z => aL z 1152 w16) ((cm_zI_aL _ _ _ _ _).trans (congrArg (fun z => aL z 1150 w15) ((cm_zI_aL _ _ _ _ _).trans (congrArg (fun z => aL z 1141 w14) ((cm_zI_aL _ _ _ _ _).trans (congrArg (fun z => aL z 1140 w13) ((cm_zI_aI _ _ _ _ _).trans (congrArg (fun z => aI z 1163 w12) ((cm_zI_aI _ _ _ _ _).trans (congrArg (fun z => aI z 1162 w11) ((cm_zI_aI _ _ _ _ _).trans (congrArg (fun z => aI z 1160 w10) ((cm_zI_aI _ _ _ _ _).trans (congrArg (fun z => aI z 1108 w9) ((cm_zI_zL _ _ _ _ _).trans (congrArg (fun z => zL z 1052 w8) ((zI_comm _ (by decide) _ _).trans (congrArg (fun z => zI z 1095 w7) ((zI_comm _ (by decide) _ _).trans (congrArg (fun z => zI z 1094 w6) (zI_zI _ 1092 _ _))))))))))))))))))))))))
theorem sgX1_worst_zI1094 {σ : Sto} {w0 : Int32} {w1 : Int32} {w2 : Int32} {w3 : Int32} {w4 : Int32} {w5 : Int32} {w6 : Int32} {w7 : Int32} {w8 : Int64} {w9 : Nat → Int32} {w10 : Nat → Int32} {w11 : Nat → Int32} {w12 : Nat → Int32} {w13 : Nat → Int64} {w14 : Nat → Int64} {w15 : Nat → Int64} {w16 : Nat → Int64} {w17 : Nat → Int64} {g : Int32} : zI (sgX1_worst σ w0 w1 w2 w3 w4 w5 w6 w7 w8 w9 w10 w11 w12 w13 w14 w15 w16 w17) 1094 g = sgX1_worst σ w0 w1 w2 w3 w4 w5 g w7 w8 w9 w10 w11 w12 w13 w14 w15 w16 w17 := (cm_zI_aL _ _ _ _ _).trans (congrArg (fun z => aL z 1153 w17) ((cm_zI_aL _ _ _ _ _).trans (congrArg (fun z => aL z 1152 w16) ((cm_zI_aL _ _ _ _ _).trans (congrArg (fun z => aL z 1150 w15) ((cm_zI_aL _ _ _ _ _).trans (congrArg (fun z => aL z 1141 w14) ((cm_zI_aL _ _ _ _ _).trans (congrArg (fun z => aL z 1140 w13) ((cm_zI_aI _ _ _ _ _).trans (congrArg (fun z => aI z 1163 w12) ((cm_zI_aI _ _ _ _ _).trans (congrArg (fun z => aI z 1162 w11) ((cm_zI_aI _ _ _ _ _).trans (congrArg (fun z => aI z 1160 w10) ((cm_zI_aI _ _ _ _ _).trans (congrArg (fun z => aI z 1108 w9) ((cm_zI_zL _ _ _ _ _).trans (congrArg (fun z => zL z 1052 w8) ((zI_comm _ (by decide) _ _).trans (congrArg (fun z => zI z 1095 w7) (zI_zI _ 1094 _ _))))))))))))))))))))))
theorem sgX1_worst_zI1095 {σ : Sto} {w0 : Int32} {w1 : Int32} {w2 : Int32} {w3 : Int32} {w4 : Int32} {w5 : Int32} {w6 : Int32} {w7 : Int32} {w8 : Int64} {w9 : Nat → Int32} {w10 : Nat → Int32} {w11 : Nat → Int32} {w12 : Nat → Int32} {w13 : Nat → Int64} {w14 : Nat → Int64} {w15 : Nat → Int64} {w16 : Nat → Int64} {w17 : Nat → Int64} {g : Int32} : zI (sgX1_worst σ w0 w1 w2 w3 w4 w5 w6 w7 w8 w9 w10 w11 w12 w13 w14 w15 w16 w17) 1095 g = sgX1_worst σ w0 w1 w2 w3 w4 w5 w6 g w8 w9 w10 w11 w12 w13 w14 w15 w16 w17 := (cm_zI_aL _ _ _ _ _).trans (congrArg (fun z => aL z 1153 w17) ((cm_zI_aL _ _ _ _ _).trans (congrArg (fun z => aL z 1152 w16) ((cm_zI_aL _ _ _ _ _).trans (congrArg (fun z => aL z 1150 w15) ((cm_zI_aL _ _ _ _ _).trans (congrArg (fun z => aL z 1141 w14) ((cm_zI_aL _ _ _ _ _).trans (congrArg (fun z => aL z 1140 w13) ((cm_zI_aI _ _ _ _ _).trans (congrArg (fun z => aI z 1163 w12) ((cm_zI_aI _ _ _ _ _).trans (congrArg (fun z => aI z 1162 w11) ((cm_zI_aI _ _ _ _ _).trans (congrArg (fun z => aI z 1160 w10) ((cm_zI_aI _ _ _ _ _).trans (congrArg (fun z => aI z 1108 w9) ((cm_zI_zL _ _ _ _ _).trans (congrArg (fun z => zL z 1052 w8) (zI_zI _ 1095 _ _))))))))))))))))))))
theorem sgX1_worst_zL1052 {σ : Sto} {w0 : Int32} {w1 : Int32} {w2 : Int32} {w3 : Int32} {w4 : Int32} {w5 : Int32} {w6 : Int32} {w7 : Int32} {w8 : Int64} {w9 : Nat → Int32} {w10 : Nat → Int32} {w11 : Nat → Int32} {w12 : Nat → Int32} {w13 : Nat → Int64} {w14 : Nat → Int64} {w15 : Nat → Int64} {w16 : Nat → Int64} {w17 : Nat → Int64} {g : Int64} : zL (sgX1_worst σ w0 w1 w2 w3 w4 w5 w6 w7 w8 w9 w10 w11 w12 w13 w14 w15 w16 w17) 1052 g = sgX1_worst σ w0 w1 w2 w3 w4 w5 w6 w7 g w9 w10 w11 w12 w13 w14 w15 w16 w17 := (cm_zL_aL _ _ _ _ _).trans (congrArg (fun z => aL z 1153 w17) ((cm_zL_aL _ _ _ _ _).trans (congrArg (fun z => aL z 1152 w16) ((cm_zL_aL _ _ _ _ _).trans (congrArg (fun z => aL z 1150 w15) ((cm_zL_aL _ _ _ _ _).trans (congrArg (fun z => aL z 1141 w14) ((cm_zL_aL _ _ _ _ _).trans (congrArg (fun z => aL z 1140 w13) ((cm_zL_aI _ _ _ _ _).trans (congrArg (fun z => aI z 1163 w12) ((cm_zL_aI _ _ _ _ _).trans (congrArg (fun z => aI z 1162 w11) ((cm_zL_aI _ _ _ _ _).trans (congrArg (fun z => aI z 1160 w10) ((cm_zL_aI _ _ _ _ _).trans (congrArg (fun z => aI z 1108 w9) (zL_zL _ 1052 _ _))))))))))))))))))
theorem sgX1_worst_aI1108 {σ : Sto} {w0 : Int32} {w1 : Int32} {w2 : Int32} {w3 : Int32} {w4 : Int32} {w5 : Int32} {w6 : Int32} {w7 : Int32} {w8 : Int64} {w9 : Nat → Int32} {w10 : Nat → Int32} {w11 : Nat → Int32} {w12 : Nat → Int32} {w13 : Nat → Int64} {w14 : Nat → Int64} {w15 : Nat → Int64} {w16 : Nat → Int64} {w17 : Nat → Int64} {g : Nat → Int32} : aI (sgX1_worst σ w0 w1 w2 w3 w4 w5 w6 w7 w8 w9 w10 w11 w12 w13 w14 w15 w16 w17) 1108 g = sgX1_worst σ w0 w1 w2 w3 w4 w5 w6 w7 w8 g w10 w11 w12 w13 w14 w15 w16 w17 := (cm_aI_aL _ _ _ _ _).trans (congrArg (fun z => aL z 1153 w17) ((cm_aI_aL _ _ _ _ _).trans (congrArg (fun z => aL z 1152 w16) ((cm_aI_aL _ _ _ _ _).trans (congrArg (fun z => aL z 1150 w15) ((cm_aI_aL _ _ _ _ _).trans (congrArg (fun z => aL z 1141 w14) ((cm_aI_aL _ _ _ _ _).trans (congrArg (fun z => aL z 1140 w13) ((aI_comm _ (by decide) _ _).trans (congrArg (fun z => aI z 1163 w12) ((aI_comm _ (by decide) _ _).trans (congrArg (fun z => aI z 1162 w11) ((aI_comm _ (by decide) _ _).trans (congrArg (fun z => aI z 1160 w10) (aI_aI _ 1108 _ _))))))))))))))))
theorem sgX1_worst_aI1160 {σ : Sto} {w0 : Int32} {w1 : Int32} {w2 : Int32} {w3 : Int32} {w4 : Int32} {w5 : Int32} {w6 : Int32} {w7 : Int32} {w8 : Int64} {w9 : Nat → Int32} {w10 : Nat → Int32} {w11 : Nat → Int32} {w12 : Nat → Int32} {w13 : Nat → Int64} {w14 : Nat → Int64} {w15 : Nat → Int64} {w16 : Nat → Int64} {w17 : Nat → Int64} {g : Nat → Int32} : aI (sgX1_worst σ w0 w1 w2 w3 w4 w5 w6 w7 w8 w9 w10 w11 w12 w13 w14 w15 w16 w17) 1160 g = sgX1_worst σ w0 w1 w2 w3 w4 w5 w6 w7 w8 w9 g w11 w12 w13 w14 w15 w16 w17 := (cm_aI_aL _ _ _ _ _).trans (congrArg (fun z => aL z 1153 w17) ((cm_aI_aL _ _ _ _ _).trans (congrArg (fun z => aL z 1152 w16) ((cm_aI_aL _ _ _ _ _).trans (congrArg (fun z => aL z 1150 w15) ((cm_aI_aL _ _ _ _ _).trans (congrArg (fun z => aL z 1141 w14) ((cm_aI_aL _ _ _ _ _).trans (congrArg (fun z => aL z 1140 w13) ((aI_comm _ (by decide) _ _).trans (congrArg (fun z => aI z 1163 w12) ((aI_comm _ (by decide) _ _).trans (congrArg (fun z => aI z 1162 w11) (aI_aI _ 1160 _ _))))))))))))))
theorem sgX1_worst_aI1162 {σ : Sto} {w0 : Int32} {w1 : Int32} {w2 : Int32} {w3 : Int32} {w4 : Int32} {w5 : Int32} {w6 : Int32} {w7 : Int32} {w8 : Int64} {w9 : Nat → Int32} {w10 : Nat → Int32} {w11 : Nat → Int32} {w12 : Nat → Int32} {w13 : Nat → Int64} {w14 : Nat → Int64} {w15 : Nat → Int64} {w16 : Nat → Int64} {w17 : Nat → Int64} {g : Nat → Int32} : aI (sgX1_worst σ w0 w1 w2 w3 w4 w5 w6 w7 w8 w9 w10 w11 w12 w13 w14 w15 w16 w17) 1162 g = sgX1_worst σ w0 w1 w2 w3 w4 w5 w6 w7 w8 w9 w10 g w12 w13 w14 w15 w16 w17 := (cm_aI_aL _ _ _ _ _).trans (congrArg (fun z => aL z 1153 w17) ((cm_aI_aL _ _ _ _ _).trans (congrArg (fun z => aL z 1152 w16) ((cm_aI_aL _ _ _ _ _).trans (congrArg (fun z => aL z 1150 w15) ((cm_aI_aL _ _ _ _ _).trans (congrArg (fun z => aL z 1141 w14) ((cm_aI_aL _ _ _ _ _).trans (congrArg (fun z => aL z 1140 w13) ((aI_comm _ (by decide) _ _).trans (congrArg (fun z => aI z 1163 w12) (aI_aI _ 1162 _ _))))))))))))
theorem sgX1_worst_aI1163 {σ : Sto} {w0 : Int32} {w1 : Int32} {w2 : Int32} {w3 : Int32} {w4 : Int32} {w5 : Int32} {w6 : Int32} {w7 : Int32} {w8 : Int64} {w9 : Nat → Int32} {w10 : Nat → Int32} {w11 : Nat → Int32} {w12 : Nat → Int32} {w13 : Nat → Int64} {w14 : Nat → Int64} {w15 : Nat → Int64} {w16 : Nat → Int64} {w17 : Nat → Int64} {g : Nat → Int32} : aI (sgX1_worst σ w0 w1 w2 w3 w4 w5 w6 w7 w8 w9 w10 w11 w12 w13 w14 w15 w16 w17) 1163 g = sgX1_worst σ w0 w1 w2 w3 w4 w5 w6 w7 w8 w9 w10 w11 g w13 w14 w15 w16 w17 := (cm_aI_aL _ _ _ _ _).trans (congrArg (fun z => aL z 1153 w17) ((cm_aI_aL _ _ _ _ _).trans (congrArg (fun z => aL z 1152 w16) ((cm_aI_aL _ _ _ _ _).trans (congrArg (fun z => aL z 1150 w15) ((cm_aI_aL _ _ _ _ _).trans (congrArg (fun z => aL z 1141 w14) ((cm_aI_aL _ _ _ _ _).trans (congrArg (fun z => aL z 1140 w13) (aI_aI _ 1163 _ _))))))))))
theorem sgX1_worst_aL1140 {σ : Sto} {w0 : Int32} {w1 : Int32} {w2 : Int32} {w3 : Int32} {w4 : Int32} {w5 : Int32} {w6 : Int32} {w7 : Int32} {w8 : Int64} {w9 : Nat → Int32} {w10 : Nat → Int32} {w11 : Nat → Int32} {w12 : Nat → Int32} {w13 : Nat → Int64} {w14 : Nat → Int64} {w15 : Nat → Int64} {w16 : Nat → Int64} {w17 : Nat → Int64} {g : Nat → Int64} : aL (sgX1_worst σ w0 w1 w2 w3 w4 w5 w6 w7 w8 w9 w10 w11 w12 w13 w14 w15 w16 w17) 1140 g = sgX1_worst σ w0 w1 w2 w3 w4 w5 w6 w7 w8 w9 w10 w11 w12 g w14 w15 w16 w17 := (aL_comm _ (by decide) _ _).trans (congrArg (fun z => aL z 1153 w17) ((aL_comm _ (by decide) _ _).trans (congrArg (fun z => aL z 1152 w16) ((aL_comm _ (by decide) _ _).trans (congrArg (fun z => aL z 1150 w15) ((aL_comm _ (by decide) _ _).trans (congrArg (fun z => aL z 1141 w14) (aL_aL _ 1140 _ _))))))))
theorem sgX1_worst_aL1141 {σ : Sto} {w0 : Int32} {w1 : Int32} {w2 : Int32} {w3 : Int32} {w4 : Int32} {w5 : Int32} {w6 : Int32} {w7 : Int32} {w8 : Int64} {w9 : Nat → Int32} {w10 : Nat → Int32} {w11 : Nat → Int32} {w12 : Nat → Int32} {w13 : Nat → Int64} {w14 : Nat → Int64} {w15 : Nat → Int64} {w16 : Nat → Int64} {w17 : Nat → Int64} {g : Nat → Int64} : aL (sgX1_worst σ w0 w1 w2 w3 w4 w5 w6 w7 w8 w9 w10 w11 w12 w13 w14 w15 w16 w17) 1141 g = sgX1_worst σ w0 w1 w2 w3 w4 w5 w6 w7 w8 w9 w10 w11 w12 w13 g w15 w16 w17 := (aL_comm _ (by decide) _ _).trans (congrArg (fun z => aL z 1153 w17) ((aL_comm _ (by decide) _ _).trans (congrArg (fun z => aL z 1152 w16) ((aL_comm _ (by decide) _ _).trans (congrArg (fun z => aL z 1150 w15) (aL_aL _ 1141 _ _))))))
theorem sgX1_worst_aL1150 {σ : Sto} {w0 : Int32} {w1 : Int32} {w2 : Int32} {w3 : Int32} {w4 : Int32} {w5 : Int32} {w6 : Int32} {w7 : Int32} {w8 : Int64} {w9 : Nat → Int32} {w10 : Nat → Int32} {w11 : Nat → Int32} {w12 : Nat → Int32} {w13 : Nat → Int64} {w14 : Nat → Int64} {w15 : Nat → Int64} {w16 : Nat → Int64} {w17 : Nat → Int64} {g : Nat → Int64} : aL (sgX1_worst σ w0 w1 w2 w3 w4 w5 w6 w7 w8 w9 w10 w11 w12 w13 w14 w15 w16 w17) 1150 g = sgX1_worst σ w0 w1 w2 w3 w4 w5 w6 w7 w8 w9 w10 w11 w12 w13 w14 g w16 w17 := (aL_comm _ (by decide) _ _).trans (congrArg (fun z => aL z 1153 w17) ((aL_comm _ (by decide) _ _).trans (congrArg (fun z => aL z 1152 w16) (aL_aL _ 1150 _ _))))
theorem sgX1_worst_aL1152 {σ : Sto} {w0 : Int32} {w1 : Int32} {w2 : Int32} {w3 : Int32} {w4 : Int32} {w5 : Int32} {w6 : Int32} {w7 : Int32} {w8 : Int64} {w9 : Nat → Int32} {w10 : Nat → Int32} {w11 : Nat → Int32} {w12 : Nat → Int32} {w13 : Nat → Int64} {w14 : Nat → Int64} {w15 : Nat → Int64} {w16 : Nat → Int64} {w17 : Nat → Int64} {g : Nat → Int64} : aL (sgX1_worst σ w0 w1 w2 w3 w4 w5 w6 w7 w8 w9 w10 w11 w12 w13 w14 w15 w16 w17) 1152 g = sgX1_worst σ w0 w1 w2 w3 w4 w5 w6 w7 w8 w9 w10 w11 w12 w13 w14 w15 g w17 := (aL_comm _ (by decide) _ _).trans (congrArg (fun z => aL z 1153 w17) (aL_aL _ 1152 _ _))
theorem sgX1_worst_aL1153 {σ : Sto} {w0 : Int32} {w1 : Int32} {w2 : Int32} {w3 : Int32} {w4 : Int32} {w5 : Int32} {w6 : Int32} {w7 : Int32} {w8 : Int64} {w9 : Nat → Int32} {w10 : Nat → Int32} {w11 : Nat → Int32} {w12 : Nat → Int32} {w13 : Nat → Int64} {w14 : Nat → Int64} {w15 : Nat → Int64} {w16 : Nat → Int64} {w17 : Nat → Int64} {g : Nat → Int64} : aL (sgX1_worst σ w0 w1 w2 w3 w4 w5 w6 w7 w8 w9 w10 w11 w12 w13 w14 w15 w16 w17) 1153 g = sgX1_worst σ w0 w1 w2 w3 w4 w5 w6 w7 w8 w9 w10 w11 w12 w13 w14 w15 w16 g := aL_aL _ 1153 _ _
theorem sgX1_worst_rzI1018 {σ : Sto} {w0 : Int32} {w1 : Int32} {w2 : Int32} {w3 : Int32} {w4 : Int32} {w5 : Int32} {w6 : Int32} {w7 : Int32} {w8 : Int64} {w9 : Nat → Int32} {w10 : Nat → Int32} {w11 : Nat → Int32} {w12 : Nat → Int32} {w13 : Nat → Int64} {w14 : Nat → Int64} {w15 : Nat → Int64} {w16 : Nat → Int64} {w17 : Nat → Int64} : (sgX1_worst σ w0 w1 w2 w3 w4 w5 w6 w7 w8 w9 w10 w11 w12 w13 w14 w15 w16 w17).1 1018 = w0 := rfl
theorem sgX1_worst_rzI1019 {σ : Sto} {w0 : Int32} {w1 : Int32} {w2 : Int32} {w3 : Int32} {w4 : Int32} {w5 : Int32} {w6 : Int32} {w7 : Int32} {w8 : Int64} {w9 : Nat → Int32} {w10 : Nat → Int32} {w11 : Nat → Int32} {w12 : Nat → Int32} {w13 : Nat → Int64} {w14 : Nat → Int64} {w15 : Nat → Int64} {w16 : Nat → Int64} {w17 : Nat → Int64} : (sgX1_worst σ w0 w1 w2 w3 w4 w5 w6 w7 w8 w9 w10 w11 w12 w13 w14 w15 w16 w17).1 1019 = w1 := rfl
theorem sgX1_worst_rzI1020 {σ : Sto} {w0 : Int32} {w1 : Int32} {w2 : Int32} {w3 : Int32} {w4 : Int32} {w5 : Int32} {w6 : Int32} {w7 : Int32} {w8 : Int64} {w9 : Nat → Int32} {w10 : Nat → Int32} {w11 : Nat → Int32} {w12 : Nat → Int32} {w13 : Nat → Int64} {w14 : Nat → Int64} {w15 : Nat → Int64} {w16 : Nat → Int64} {w17 : Nat → Int64} : (sgX1_worst σ w0 w1 w2 w3 w4 w5 w6 w7 w8 w9 w10 w11 w12 w13 w14 w15 w16 w17).1 1020 = w2 := rfl
theorem sgX1_worst_rzI1062 {σ : Sto} {w0 : Int32} {w1 : Int32} {w2 : Int32} {w3 : Int32} {w4 : Int32} {w5 : Int32} {w6 : Int32} {w7 : Int32} {w8 : Int64} {w9 : Nat → Int32} {w10 : Nat → Int32} {w11 : Nat → Int32} {w12 : Nat → Int32} {w13 : Nat → Int64} {w14 : Nat → Int64} {w15 : Nat → Int64} {w16 : Nat → Int64} {w17 : Nat → Int64} : (sgX1_worst σ w0 w1 w2 w3 w4 w5 w6 w7 w8 w9 w10 w11 w12 w13 w14 w15 w16 w17).1 1062 = w3 := rfl
theorem sgX1_worst_rzI1082 {σ : Sto} {w0 : Int32} {w1 : Int32} {w2 : Int32} {w3 : Int32} {w4 : Int32} {w5 : Int32} {w6 : Int32} {w7 : Int32} {w8 : Int64} {w9 : Nat → Int32} {w10 : Nat → Int32} {w11 : Nat → Int32} {w12 : Nat → Int32} {w13 : Nat → Int64} {w14 : Nat → Int64} {w15 : Nat → Int64} {w16 : Nat → Int64} {w17 : Nat → Int64} : (sgX1_worst σ w0 w1 w2 w3 w4 w5 w6 w7 w8 w9 w10 w11 w12 w13 w14 w15 w16 w17).1 1082 = w4 := rfl
theorem sgX1_worst_rzI1092 {σ : Sto} {w0 : Int32} {w1 : Int32} {w2 : Int32} {w3 : Int32} {w4 : Int32} {w5 : Int32} {w6 : Int32} {w7 : Int32} {w8 : Int64} {w9 : Nat → Int32} {w10 : Nat → Int32} {w11 : Nat → Int32} {w12 : Nat → Int32} {w13 : Nat → Int64} {w14 : Nat → Int64} {w15 : Nat → Int64} {w16 : Nat → Int64} {w17 : Nat → Int64} : (sgX1_worst σ w0 w1 w2 w3 w4 w5 w6 w7 w8 w9 w10 w11 w12 w13 w14 w15 w16 w17).1 1092 = w5 := rfl
theorem sgX1_worst_rzI1094 {σ : Sto} {w0 : Int32} {w1 : Int32} {w2 : Int32} {w3 : Int32} {w4 : Int32} {w5 : Int32} {w6 : Int32} {w7 : Int32} {w8 : Int64} {w9 : Nat → Int32} {w10 : Nat → Int32} {w11 : Nat → Int32} {w12 : Nat → Int32} {w13 : Nat → Int64} {w14 : Nat → Int64} {w15 : Nat → Int64} {w16 : Nat → Int64} {w17 : Nat → Int64} : (sgX1_worst σ w0 w1 w2 w3 w4 w5 w6 w7 w8 w9 w10 w11 w12 w13 w14 w15 w16 w17).1 1094 = w6 := rfl
theorem sgX1_worst_rzI1095 {σ : Sto} {w0 : Int32} {w1 : Int32} {w2 : Int32} {w3 : Int32} {w4 : Int32} {w5 : Int32} {w6 : Int32} {w7 : Int32} {w8 : Int64} {w9 : Nat → Int32} {w10 : Nat → Int32} {w11 : Nat → Int32} {w12 : Nat → Int32} {w13 : Nat → Int64} {w14 : Nat → Int64} {w15 : Nat → Int64} {w16 : Nat → Int64} {w17 : Nat → Int64} : (sgX1_worst σ w0 w1 w2 w3 w4 w5 w6 w7 w8 w9 w10 w11 w12 w13 w14 w15 w16 w17).1 1095 = w7 := rfl
theorem sgX1_worst_rzI1262 {σ : Sto} {w0 : Int32} {w1 : Int32} {w2 : Int32} {w3 : Int32} {w4 : Int32} {w5 : Int32} {w6 : Int32} {w7 : Int32} {w8 : Int64} {w9 : Nat → Int32} {w10 : Nat → Int32} {w11 : Nat → Int32} {w12 : Nat → Int32} {w13 : Nat → Int64} {w14 : Nat → Int64} {w15 : Nat → Int64} {w16 : Nat → Int64} {w17 : Nat → Int64} : (sgX1_worst σ w0 w1 w2 w3 w4 w5 w6 w7 w8 w9 w10 w11 w12 w13 w14 w15 w16 w17).1 1262 = σ.1 1262 := rfl
theorem sgX1_worst_rzI1485 {σ : Sto} {w0 : Int32} {w1 : Int32} {w2 : Int32} {w3 : Int32} {w4 : Int32} {w5 : Int32} {w6 : Int32} {w7 : Int32} {w8 : Int64} {w9 : Nat → Int32} {w10 : Nat → Int32} {w11 : Nat → Int32} {w12 : Nat → Int32} {w13 : Nat → Int64} {w14 : Nat → Int64} {w15 : Nat → Int64} {w16 : Nat → Int64} {w17 : Nat → Int64} : (sgX1_worst σ w0 w1 w2 w3 w4 w5 w6 w7 w8 w9 w10 w11 w12 w13 w14 w15 w16 w17).1 1485 = σ.1 1485 := rfl
theorem sgX1_worst_rzI2008 {σ : Sto} {w0 : Int32} {w1 : Int32} {w2 : Int32} {w3 : Int32} {w4 : Int32} {w5 : Int32} {w6 : Int32} {w7 : Int32} {w8 : Int64} {w9 : Nat → Int32} {w10 : Nat → Int32} {w11 : Nat → Int32} {w12 : Nat → Int32} {w13 : Nat → Int64} {w14 : Nat → Int64} {w15 : Nat → Int64} {w16 : Nat → Int64} {w17 : Nat → Int64} : (sgX1_worst σ w0 w1 w2 w3 w4 w5 w6 w7 w8 w9 w10 w11 w12 w13 w14 w15 w16 w17).1 2008 = σ.1 2008 := rfl
theorem sgX1_worst_rzI2009 {σ : Sto} {w0 : Int32} {w1 : Int32} {w2 : Int32} {w3 : Int32} {w4 : Int32} {w5 : Int32} {w6 : Int32} {w7 : Int32} {w8 : Int64} {w9 : Nat → Int32} {w10 : Nat → Int32} {w11 : Nat → Int32} {w12 : Nat → Int32} {w13 : Nat → Int64} {w14 : Nat → Int64} {w15 : Nat → Int64} {w16 : Nat → Int64} {w17 : Nat → Int64} : (sgX1_worst σ w0 w1 w2 w3 w4 w5 w6 w7 w8 w9 w10 w11 w12 w13 w14 w15 w16 w17).1 2009 = σ.1 2009 := rfl
theorem sgX1_worst_rzI2012 {σ : Sto} {w0 : Int32} {w1 : Int32} {w2 : Int32} {w3 : Int32} {w4 : Int32} {w5 : Int32} {w6 : Int32} {w7 : Int32} {w8 : Int64} {w9 : Nat → Int32} {w10 : Nat → Int32} {w11 : Nat → Int32} {w12 : Nat → Int32} {w13 : Nat → Int64} {w14 : Nat → Int64} {w15 : Nat → Int64} {w16 : Nat → Int64} {w17 : Nat → Int64} : (sgX1_worst σ w0 w1 w2 w3 w4 w5 w6 w7 w8 w9 w10 w11 w12 w13 w14 w15 w16 w17).1 2012 = σ.1 2012 := rfl
theorem sgX1_worst_rzI2013 {σ : Sto} {w0 : Int32} {w1 : Int32} {w2 : Int32} {w3 : Int32} {w4 : Int32} {w5 : Int32} {w6 : Int32} {w7 : Int32} {w8 : Int64} {w9 : Nat → Int32} {w10 : Nat → Int32} {w11 : Nat → Int32} {w12 : Nat → Int32} {w13 : Nat → Int64} {w14 : Nat → Int64} {w15 : Nat → Int64} {w16 : Nat → Int64} {w17 : Nat → Int64} : (sgX1_worst σ w0 w1 w2 w3 w4 w5 w6 w7 w8 w9 w10 w11 w12 w13 w14 w15 w16 w17).1 2013 = σ.1 2013 := rfl
theorem sgX1_worst_rzI2027 {σ : Sto} {w0 : Int32} {w1 : Int32} {w2 : Int32} {w3 : Int32} {w4 : Int32} {w5 : Int32} {w6 : Int32} {w7 : Int32} {w8 : Int64} {w9 : Nat → Int32} {w10 : Nat → Int32} {w11 : Nat → Int32} {w12 : Nat → Int32} {w13 : Nat → Int64} {w14 : Nat → Int64} {w15 : Nat → Int64} {w16 : Nat → Int64} {w17 : Nat → Int64} : (sgX1_worst σ w0 w1 w2 w3 w4 w5 w6 w7 w8 w9 w10 w11 w12 w13 w14 w15 w16 w17).1 2027 = σ.1 2027 := rfl
theorem sgX1_worst_rzI2032 {σ : Sto} {w0 : Int32} {w1 : Int32} {w2 : Int32} {w3 : Int32} {w4 : Int32} {w5 : Int32} {w6 : Int32} {w7 : Int32} {w8 : Int64} {w9 : Nat → Int32} {w10 : Nat → Int32} {w11 : Nat → Int32} {w12 : Nat → Int32} {w13 : Nat → Int64} {w14 : Nat → Int64} {w15 : Nat → Int64} {w16 : Nat → Int64} {w17 : Nat → Int64} : (sgX1_worst σ w0 w1 w2 w3 w4 w5 w6 w7 w8 w9 w10 w11 w12 w13 w14 w15 w16 w17).1 2032 = σ.1 2032 := rfl
theorem sgX1_worst_rzL1052 {σ : Sto} {w0 : Int32} {w1 : Int32} {w2 : Int32} {w3 : Int32} {w4 : Int32} {w5 : Int32} {w6 : Int32} {w7 : Int32} {w8 : Int64} {w9 : Nat → Int32} {w10 : Nat → Int32} {w11 : Nat → Int32} {w12 : Nat → Int32} {w13 : Nat → Int64} {w14 : Nat → Int64} {w15 : Nat → Int64} {w16 : Nat → Int64} {w17 : Nat → Int64} : (sgX1_worst σ w0 w1 w2 w3 w4 w5 w6 w7 w8 w9 w10 w11 w12 w13 w14 w15 w16 w17).2.1 1052 = w8 := rfl
theorem sgX1_worst_rzL1061 {σ : Sto} {w0 : Int32} {w1 : Int32} {w2 : Int32} {w3 : Int32} {w4 : Int32} {w5 : Int32} {w6 : Int32} {w7 : Int32} {w8 : Int64} {w9 : Nat → Int32} {w10 : Nat → Int32} {w11 : Nat → Int32} {w12 : Nat → Int32} {w13 : Nat → Int64} {w14 : Nat → Int64} {w15 : Nat → Int64} {w16 : Nat → Int64} {w17 : Nat → Int64} : (sgX1_worst σ w0 w1 w2 w3 w4 w5 w6 w7 w8 w9 w10 w11 w12 w13 w14 w15 w16 w17).2.1 1061 = σ.2.1 1061 := rfl
theorem sgX1_worst_rzL1081 {σ : Sto} {w0 : Int32} {w1 : Int32} {w2 : Int32} {w3 : Int32} {w4 : Int32} {w5 : Int32} {w6 : Int32} {w7 : Int32} {w8 : Int64} {w9 : Nat → Int32} {w10 : Nat → Int32} {w11 : Nat → Int32} {w12 : Nat → Int32} {w13 : Nat → Int64} {w14 : Nat → Int64} {w15 : Nat → Int64} {w16 : Nat → Int64} {w17 : Nat → Int64} : (sgX1_worst σ w0 w1 w2 w3 w4 w5 w6 w7 w8 w9 w10 w11 w12 w13 w14 w15 w16 w17).2.1 1081 = σ.2.1 1081 := rfl
theorem sgX1_worst_rzL1091 {σ : Sto} {w0 : Int32} {w1 : Int32} {w2 : Int32} {w3 : Int32} {w4 : Int32} {w5 : Int32} {w6 : Int32} {w7 : Int32} {w8 : Int64} {w9 : Nat → Int32} {w10 : Nat → Int32} {w11 : Nat → Int32} {w12 : Nat → Int32} {w13 : Nat → Int64} {w14 : Nat → Int64} {w15 : Nat → Int64} {w16 : Nat → Int64} {w17 : Nat → Int64} : (sgX1_worst σ w0 w1 w2 w3 w4 w5 w6 w7 w8 w9 w10 w11 w12 w13 w14 w15 w16 w17).2.1 1091 = σ.2.1 1091 := rfl
theorem sgX1_worst_raI1108 {σ : Sto} {w0 : Int32} {w1 : Int32} {w2 : Int32} {w3 : Int32} {w4 : Int32} {w5 : Int32} {w6 : Int32} {w7 : Int32} {w8 : Int64} {w9 : Nat → Int32} {w10 : Nat → Int32} {w11 : Nat → Int32} {w12 : Nat → Int32} {w13 : Nat → Int64} {w14 : Nat → Int64} {w15 : Nat → Int64} {w16 : Nat → Int64} {w17 : Nat → Int64} : (sgX1_worst σ w0 w1 w2 w3 w4 w5 w6 w7 w8 w9 w10 w11 w12 w13 w14 w15 w16 w17).2.2.1 1108 = w9 := rfl
theorem sgX1_worst_raI1160 {σ : Sto} {w0 : Int32} {w1 : Int32} {w2 : Int32} {w3 : Int32} {w4 : Int32} {w5 : Int32} {w6 : Int32} {w7 : Int32} {w8 : Int64} {w9 : Nat → Int32} {w10 : Nat → Int32} {w11 : Nat → Int32} {w12 : Nat → Int32} {w13 : Nat → Int64} {w14 : Nat → Int64} {w15 : Nat → Int64} {w16 : Nat → Int64} {w17 : Nat → Int64} : (sgX1_worst σ w0 w1 w2 w3 w4 w5 w6 w7 w8 w9 w10 w11 w12 w13 w14 w15 w16 w17).2.2.1 1160 = w10 := rfl
theorem sgX1_worst_raI1162 {σ : Sto} {w0 : Int32} {w1 : Int32} {w2 : Int32} {w3 : Int32} {w4 : Int32} {w5 : Int32} {w6 : Int32} {w7 : Int32} {w8 : Int64} {w9 : Nat → Int32} {w10 : Nat → Int32} {w11 : Nat → Int32} {w12 : Nat → Int32} {w13 : Nat → Int64} {w14 : Nat → Int64} {w15 : Nat → Int64} {w16 : Nat → Int64} {w17 : Nat → Int64} : (sgX1_worst σ w0 w1 w2 w3 w4 w5 w6 w7 w8 w9 w10 w11 w12 w13 w14 w15 w16 w17).2.2.1 1162 = w11 := rfl
theorem sgX1_worst_raI1163 {σ : Sto} {w0 : Int32} {w1 : Int32} {w2 : Int32} {w3 : Int32} {w4 : Int32} {w5 : Int32} {w6 : Int32} {w7 : Int32} {w8 : Int64} {w9 : Nat → Int32} {w10 : Nat → Int32} {w11 : Nat → Int32} {w12 : Nat → Int32} {w13 : Nat → Int64} {w14 : Nat → Int64} {w15 : Nat → Int64} {w16 : Nat → Int64} {w17 : Nat → Int64} : (sgX1_worst σ w0 w1 w2 w3 w4 w5 w6 w7 w8 w9 w10 w11 w12 w13 w14 w15 w16 w17).2.2.1 1163 = w12 := rfl
theorem sgX1_worst_raI1164 {σ : Sto} {w0 : Int32} {w1 : Int32} {w2 : Int32} {w3 : Int32} {w4 : Int32} {w5 : Int32} {w6 : Int32} {w7 : Int32} {w8 : Int64} {w9 : Nat → Int32} {w10 : Nat → Int32} {w11 : Nat → Int32} {w12 : Nat → Int32} {w13 : Nat → Int64} {w14 : Nat → Int64} {w15 : Nat → Int64} {w16 : Nat → Int64} {w17 : Nat → Int64} : (sgX1_worst σ w0 w1 w2 w3 w4 w5 w6 w7 w8 w9 w10 w11 w12 w13 w14 w15 w16 w17).2.2.1 1164 = σ.2.2.1 1164 := rfl
theorem sgX1_worst_raI1170 {σ : Sto} {w0 : Int32} {w1 : Int32} {w2 : Int32} {w3 : Int32} {w4 : Int32} {w5 : Int32} {w6 : Int32} {w7 : Int32} {w8 : Int64} {w9 : Nat → Int32} {w10 : Nat → Int32} {w11 : Nat → Int32} {w12 : Nat → Int32} {w13 : Nat → Int64} {w14 : Nat → Int64} {w15 : Nat → Int64} {w16 : Nat → Int64} {w17 : Nat → Int64} : (sgX1_worst σ w0 w1 w2 w3 w4 w5 w6 w7 w8 w9 w10 w11 w12 w13 w14 w15 w16 w17).2.2.1 1170 = σ.2.2.1 1170 := rfl
theorem sgX1_worst_raI1265 {σ : Sto} {w0 : Int32} {w1 : Int32} {w2 : Int32} {w3 : Int32} {w4 : Int32} {w5 : Int32} {w6 : Int32} {w7 : Int32} {w8 : Int64} {w9 : Nat → Int32} {w10 : Nat → Int32} {w11 : Nat → Int32} {w12 : Nat → Int32} {w13 : Nat → Int64} {w14 : Nat → Int64} {w15 : Nat → Int64} {w16 : Nat → Int64} {w17 : Nat → Int64} : (sgX1_worst σ w0 w1 w2 w3 w4 w5 w6 w7 w8 w9 w10 w11 w12 w13 w14 w15 w16 w17).2.2.1 1265 = σ.2.2.1 1265 := rfl
theorem sgX1_worst_raI2036 {σ : Sto} {w0 : Int32} {w1 : Int32} {w2 : Int32} {w3 : Int32} {w4 : Int32} {w5 : Int32} {w6 : Int32} {w7 : Int32} {w8 : Int64} {w9 : Nat → Int32} {w10 : Nat → Int32} {w11 : Nat → Int32} {w12 : Nat → Int32} {w13 : Nat → Int64} {w14 : Nat → Int64} {w15 : Nat → Int64} {w16 : Nat → Int64} {w17 : Nat → Int64} : (sgX1_worst σ w0 w1 w2 w3 w4 w5 w6 w7 w8 w9 w10 w11 w12 w13 w14 w15 w16 w17).2.2.1 2036 = σ.2.2.1 2036 := rfl
theorem sgX1_worst_raI2037 {σ : Sto} {w0 : Int32} {w1 : Int32} {w2 : Int32} {w3 : Int32} {w4 : Int32} {w5 : Int32} {w6 : Int32} {w7 : Int32} {w8 : Int64} {w9 : Nat → Int32} {w10 : Nat → Int32} {w11 : Nat → Int32} {w12 : Nat → Int32} {w13 : Nat → Int64} {w14 : Nat → Int64} {w15 : Nat → Int64} {w16 : Nat → Int64} {w17 : Nat → Int64} : (sgX1_worst σ w0 w1 w2 w3 w4 w5 w6 w7 w8 w9 w10 w11 w12 w13 w14 w15 w16 w17).2.2.1 2037 = σ.2.2.1 2037 := rfl
theorem sgX1_worst_raI2042 {σ : Sto} {w0 : Int32} {w1 : Int32} {w2 : Int32} {w3 : Int32} {w4 : Int32} {w5 : Int32} {w6 : Int32} {w7 : Int32} {w8 : Int64} {w9 : Nat → Int32} {w10 : Nat → Int32} {w11 : Nat → Int32} {w12 : Nat → Int32} {w13 : Nat → Int64} {w14 : Nat → Int64} {w15 : Nat → Int64} {w16 : Nat → Int64} {w17 : Nat → Int64} : (sgX1_worst σ w0 w1 w2 w3 w4 w5 w6 w7 w8 w9 w10 w11 w12 w13 w14 w15 w16 w17).2.2.1 2042 = σ.2.2.1 2042 := rfl
theorem sgX1_worst_raI2043 {σ : Sto} {w0 : Int32} {w1 : Int32} {w2 : Int32} {w3 : Int32} {w4 : Int32} {w5 : Int32} {w6 : Int32} {w7 : Int32} {w8 : Int64} {w9 : Nat → Int32} {w10 : Nat → Int32} {w11 : Nat → Int32} {w12 : Nat → Int32} {w13 : Nat → Int64} {w14 : Nat → Int64} {w15 : Nat → Int64} {w16 : Nat → Int64} {w17 : Nat → Int64} : (sgX1_worst σ w0 w1 w2 w3 w4 w5 w6 w7 w8 w9 w10 w11 w12 w13 w14 w15 w16 w17).2.2.1 2043 = σ.2.2.1 2043 := rfl
theorem sgX1_worst_raL1140 {σ : Sto} {w0 : Int32} {w1 : Int32} {w2 : Int32} {w3 : Int32} {w4 : Int32} {w5 : Int32} {w6 : Int32} {w7 : Int32} {w8 : Int64} {w9 : Nat → Int32} {w10 : Nat → Int32} {w11 : Nat → Int32} {w12 : Nat → Int32} {w13 : Nat → Int64} {w14 : Nat → Int64} {w15 : Nat → Int64} {w16 : Nat → Int64} {w17 : Nat → Int64} : (sgX1_worst σ w0 w1 w2 w3 w4 w5 w6 w7 w8 w9 w10 w11 w12 w13 w14 w15 w16 w17).2.2.2.1 1140 = w13 := rfl
theorem sgX1_worst_raL1141 {σ : Sto} {w0 : Int32} {w1 : Int32} {w2 : Int32} {w3 : Int32} {w4 : Int32} {w5 : Int32} {w6 : Int32} {w7 : Int32} {w8 : Int64} {w9 : Nat → Int32} {w10 : Nat → Int32} {w11 : Nat → Int32} {w12 : Nat → Int32} {w13 : Nat → Int64} {w14 : Nat → Int64} {w15 : Nat → Int64} {w16 : Nat → Int64} {w17 : Nat → Int64} : (sgX1_worst σ w0 w1 w2 w3 w4 w5 w6 w7 w8 w9 w10 w11 w12 w13 w14 w15 w16 w17).2.2.2.1 1141 = w14 := rfl
theorem sgX1_worst_raL1150 {σ : Sto} {w0 : Int32} {w1 : Int32} {w2 : Int32} {w3 : Int32} {w4 : Int32} {w5 : Int32} {w6 : Int32} {w7 : Int32} {w8 : Int64} {w9 : Nat → Int32} {w10 : Nat → Int32} {w11 : Nat → Int32} {w12 : Nat → Int32} {w13 : Nat → Int64} {w14 : Nat → Int64} {w15 : Nat → Int64} {w16 : Nat → Int64} {w17 : Nat → Int64} : (sgX1_worst σ w0 w1 w2 w3 w4 w5 w6 w7 w8 w9 w10 w11 w12 w13 w14 w15 w16 w17).2.2.2.1 1150 = w15 := rfl
theorem sgX1_worst_raL1152 {σ : Sto} {w0 : Int32} {w1 : Int32} {w2 : Int32} {w3 : Int32} {w4 : Int32} {w5 : Int32} {w6 : Int32} {w7 : Int32} {w8 : Int64} {w9 : Nat → Int32} {w10 : Nat → Int32} {w11 : Nat → Int32} {w12 : Nat → Int32} {w13 : Nat → Int64} {w14 : Nat → Int64} {w15 : Nat → Int64} {w16 : Nat → Int64} {w17 : Nat → Int64} : (sgX1_worst σ w0 w1 w2 w3 w4 w5 w6 w7 w8 w9 w10 w11 w12 w13 w14 w15 w16 w17).2.2.2.1 1152 = w16 := rfl
theorem sgX1_worst_raL1153 {σ : Sto} {w0 : Int32} {w1 : Int32} {w2 : Int32} {w3 : Int32} {w4 : Int32} {w5 : Int32} {w6 : Int32} {w7 : Int32} {w8 : Int64} {w9 : Nat → Int32} {w10 : Nat → Int32} {w11 : Nat → Int32} {w12 : Nat → Int32} {w13 : Nat → Int64} {w14 : Nat → Int64} {w15 : Nat → Int64} {w16 : Nat → Int64} {w17 : Nat → Int64} : (sgX1_worst σ w0 w1 w2 w3 w4 w5 w6 w7 w8 w9 w10 w11 w12 w13 w14 w15 w16 w17).2.2.2.1 1153 = w17 := rfl
theorem sgX1_worst_rpR2 {σ : Sto} {w0 : Int32} {w1 : Int32} {w2 : Int32} {w3 : Int32} {w4 : Int32} {w5 : Int32} {w6 : Int32} {w7 : Int32} {w8 : Int64} {w9 : Nat → Int32} {w10 : Nat → Int32} {w11 : Nat → Int32} {w12 : Nat → Int32} {w13 : Nat → Int64} {w14 : Nat → Int64} {w15 : Nat → Int64} {w16 : Nat → Int64} {w17 : Nat → Int64} : (fun k => (sgX1_worst σ w0 w1 w2 w3 w4 w5 w6 w7 w8 w9 w10 w11 w12 w13 w14 w15 w16 w17).1 (6000 + 16 * k + 2)) = (fun k => σ.1 (6000 + 16 * k + 2)) := by
  funext k
  unfold sgX1_worst
  dsimp only [zI, zL, aI, aL]
  repeat rw [if_neg (by omega)]
theorem sgX1_worst_rpR3 {σ : Sto} {w0 : Int32} {w1 : Int32} {w2 : Int32} {w3 : Int32} {w4 : Int32} {w5 : Int32} {w6 : Int32} {w7 : Int32} {w8 : Int64} {w9 : Nat → Int32} {w10 : Nat → Int32} {w11 : Nat → Int32} {w12 : Nat → Int32} {w13 : Nat → Int64} {w14 : Nat → Int64} {w15 : Nat → Int64} {w16 : Nat → Int64} {w17 : Nat → Int64} : (fun k => (sgX1_worst σ w0 w1 w2 w3 w4 w5 w6 w7 w8 w9 w10 w11 w12 w13 w14 w15 w16 w17).1 (6000 + 16 * k + 3)) = (fun k => σ.1 (6000 + 16 * k + 3)) := by
  funext k
  unfold sgX1_worst
  dsimp only [zI, zL, aI, aL]
  repeat rw [if_neg (by omega)]
theorem sgX1_worst_rpR4 {σ : Sto} {w0 : Int32} {w1 : Int32} {w2 : Int32} {w3 : Int32} {w4 : Int32} {w5 : Int32} {w6 : Int32} {w7 : Int32} {w8 : Int64} {w9 : Nat → Int32} {w10 : Nat → Int32} {w11 : Nat → Int32} {w12 : Nat → Int32} {w13 : Nat → Int64} {w14 : Nat → Int64} {w15 : Nat → Int64} {w16 : Nat → Int64} {w17 : Nat → Int64} : (fun k => (sgX1_worst σ w0 w1 w2 w3 w4 w5 w6 w7 w8 w9 w10 w11 w12 w13 w14 w15 w16 w17).1 (6000 + 16 * k + 4)) = (fun k => σ.1 (6000 + 16 * k + 4)) := by
  funext k
  unfold sgX1_worst
  dsimp only [zI, zL, aI, aL]
  repeat rw [if_neg (by omega)]
theorem sgX1_worst_rpR5 {σ : Sto} {w0 : Int32} {w1 : Int32} {w2 : Int32} {w3 : Int32} {w4 : Int32} {w5 : Int32} {w6 : Int32} {w7 : Int32} {w8 : Int64} {w9 : Nat → Int32} {w10 : Nat → Int32} {w11 : Nat → Int32} {w12 : Nat → Int32} {w13 : Nat → Int64} {w14 : Nat → Int64} {w15 : Nat → Int64} {w16 : Nat → Int64} {w17 : Nat → Int64} : (fun k => (sgX1_worst σ w0 w1 w2 w3 w4 w5 w6 w7 w8 w9 w10 w11 w12 w13 w14 w15 w16 w17).1 (6000 + 16 * k + 5)) = (fun k => σ.1 (6000 + 16 * k + 5)) := by
  funext k
  unfold sgX1_worst
  dsimp only [zI, zL, aI, aL]
  repeat rw [if_neg (by omega)]
theorem sgX1_worst_rpR6 {σ : Sto} {w0 : Int32} {w1 : Int32} {w2 : Int32} {w3 : Int32} {w4 : Int32} {w5 : Int32} {w6 : Int32} {w7 : Int32} {w8 : Int64} {w9 : Nat → Int32} {w10 : Nat → Int32} {w11 : Nat → Int32} {w12 : Nat → Int32} {w13 : Nat → Int64} {w14 : Nat → Int64} {w15 : Nat → Int64} {w16 : Nat → Int64} {w17 : Nat → Int64} : (fun k => (sgX1_worst σ w0 w1 w2 w3 w4 w5 w6 w7 w8 w9 w10 w11 w12 w13 w14 w15 w16 w17).1 (6000 + 16 * k + 6)) = (fun k => σ.1 (6000 + 16 * k + 6)) := by
  funext k
  unfold sgX1_worst
  dsimp only [zI, zL, aI, aL]
  repeat rw [if_neg (by omega)]
theorem sgX1_worst_rpW0 {σ : Sto} {w0 : Int32} {w1 : Int32} {w2 : Int32} {w3 : Int32} {w4 : Int32} {w5 : Int32} {w6 : Int32} {w7 : Int32} {w8 : Int64} {w9 : Nat → Int32} {w10 : Nat → Int32} {w11 : Nat → Int32} {w12 : Nat → Int32} {w13 : Nat → Int64} {w14 : Nat → Int64} {w15 : Nat → Int64} {w16 : Nat → Int64} {w17 : Nat → Int64} : (fun k => (sgX1_worst σ w0 w1 w2 w3 w4 w5 w6 w7 w8 w9 w10 w11 w12 w13 w14 w15 w16 w17).1 (8000 + 16 * k + 0)) = (fun k => σ.1 (8000 + 16 * k + 0)) := by
  funext k
  unfold sgX1_worst
  dsimp only [zI, zL, aI, aL]
  repeat rw [if_neg (by omega)]
theorem sgX1_worst_rpW1 {σ : Sto} {w0 : Int32} {w1 : Int32} {w2 : Int32} {w3 : Int32} {w4 : Int32} {w5 : Int32} {w6 : Int32} {w7 : Int32} {w8 : Int64} {w9 : Nat → Int32} {w10 : Nat → Int32} {w11 : Nat → Int32} {w12 : Nat → Int32} {w13 : Nat → Int64} {w14 : Nat → Int64} {w15 : Nat → Int64} {w16 : Nat → Int64} {w17 : Nat → Int64} : (fun k => (sgX1_worst σ w0 w1 w2 w3 w4 w5 w6 w7 w8 w9 w10 w11 w12 w13 w14 w15 w16 w17).1 (8000 + 16 * k + 1)) = (fun k => σ.1 (8000 + 16 * k + 1)) := by
  funext k
  unfold sgX1_worst
  dsimp only [zI, zL, aI, aL]
  repeat rw [if_neg (by omega)]
theorem sgX1_worst_rpW2 {σ : Sto} {w0 : Int32} {w1 : Int32} {w2 : Int32} {w3 : Int32} {w4 : Int32} {w5 : Int32} {w6 : Int32} {w7 : Int32} {w8 : Int64} {w9 : Nat → Int32} {w10 : Nat → Int32} {w11 : Nat → Int32} {w12 : Nat → Int32} {w13 : Nat → Int64} {w14 : Nat → Int64} {w15 : Nat → Int64} {w16 : Nat → Int64} {w17 : Nat → Int64} : (fun k => (sgX1_worst σ w0 w1 w2 w3 w4 w5 w6 w7 w8 w9 w10 w11 w12 w13 w14 w15 w16 w17).1 (8000 + 16 * k + 2)) = (fun k => σ.1 (8000 + 16 * k + 2)) := by
  funext k
  unfold sgX1_worst
  dsimp only [zI, zL, aI, aL]
  repeat rw [if_neg (by omega)]
theorem sgX1_worst_rpU0 {σ : Sto} {w0 : Int32} {w1 : Int32} {w2 : Int32} {w3 : Int32} {w4 : Int32} {w5 : Int32} {w6 : Int32} {w7 : Int32} {w8 : Int64} {w9 : Nat → Int32} {w10 : Nat → Int32} {w11 : Nat → Int32} {w12 : Nat → Int32} {w13 : Nat → Int64} {w14 : Nat → Int64} {w15 : Nat → Int64} {w16 : Nat → Int64} {w17 : Nat → Int64} : (fun k => (sgX1_worst σ w0 w1 w2 w3 w4 w5 w6 w7 w8 w9 w10 w11 w12 w13 w14 w15 w16 w17).1 (10000 + 16 * k + 0)) = (fun k => σ.1 (10000 + 16 * k + 0)) := by
  funext k
  unfold sgX1_worst
  dsimp only [zI, zL, aI, aL]
  repeat rw [if_neg (by omega)]
theorem sgX1_worst_rpU1 {σ : Sto} {w0 : Int32} {w1 : Int32} {w2 : Int32} {w3 : Int32} {w4 : Int32} {w5 : Int32} {w6 : Int32} {w7 : Int32} {w8 : Int64} {w9 : Nat → Int32} {w10 : Nat → Int32} {w11 : Nat → Int32} {w12 : Nat → Int32} {w13 : Nat → Int64} {w14 : Nat → Int64} {w15 : Nat → Int64} {w16 : Nat → Int64} {w17 : Nat → Int64} : (fun k => (sgX1_worst σ w0 w1 w2 w3 w4 w5 w6 w7 w8 w9 w10 w11 w12 w13 w14 w15 w16 w17).1 (10000 + 16 * k + 1)) = (fun k => σ.1 (10000 + 16 * k + 1)) := by
  funext k
  unfold sgX1_worst
  dsimp only [zI, zL, aI, aL]
  repeat rw [if_neg (by omega)]
theorem sgX1_worst_rpU2 {σ : Sto} {w0 : Int32} {w1 : Int32} {w2 : Int32} {w3 : Int32} {w4 : Int32} {w5 : Int32} {w6 : Int32} {w7 : Int32} {w8 : Int64} {w9 : Nat → Int32} {w10 : Nat → Int32} {w11 : Nat → Int32} {w12 : Nat → Int32} {w13 : Nat → Int64} {w14 : Nat → Int64} {w15 : Nat → Int64} {w16 : Nat → Int64} {w17 : Nat → Int64} : (fun k => (sgX1_worst σ w0 w1 w2 w3 w4 w5 w6 w7 w8 w9 w10 w11 w12 w13 w14 w15 w16 w17).1 (10000 + 16 * k + 2)) = (fun k => σ.1 (10000 + 16 * k + 2)) := by
  funext k
  unfold sgX1_worst
  dsimp only [zI, zL, aI, aL]
  repeat rw [if_neg (by omega)]
theorem sgX1_worst_rpU3 {σ : Sto} {w0 : Int32} {w1 : Int32} {w2 : Int32} {w3 : Int32} {w4 : Int32} {w5 : Int32} {w6 : Int32} {w7 : Int32} {w8 : Int64} {w9 : Nat → Int32} {w10 : Nat → Int32} {w11 : Nat → Int32} {w12 : Nat → Int32} {w13 : Nat → Int64} {w14 : Nat → Int64} {w15 : Nat → Int64} {w16 : Nat → Int64} {w17 : Nat → Int64} : (fun k => (sgX1_worst σ w0 w1 w2 w3 w4 w5 w6 w7 w8 w9 w10 w11 w12 w13 w14 w15 w16 w17).1 (10000 + 16 * k + 3)) = (fun k => σ.1 (10000 + 16 * k + 3)) := by
  funext k
  unfold sgX1_worst
  dsimp only [zI, zL, aI, aL]
  repeat rw [if_neg (by omega)]
theorem sgX1_worst_rgG0 {σ : Sto} {w0 : Int32} {w1 : Int32} {w2 : Int32} {w3 : Int32} {w4 : Int32} {w5 : Int32} {w6 : Int32} {w7 : Int32} {w8 : Int64} {w9 : Nat → Int32} {w10 : Nat → Int32} {w11 : Nat → Int32} {w12 : Nat → Int32} {w13 : Nat → Int64} {w14 : Nat → Int64} {w15 : Nat → Int64} {w16 : Nat → Int64} {w17 : Nat → Int64} : (fun k => (sgX1_worst σ w0 w1 w2 w3 w4 w5 w6 w7 w8 w9 w10 w11 w12 w13 w14 w15 w16 w17).2.2.1 (4000 + 16 * k)) = (fun k => σ.2.2.1 (4000 + 16 * k)) := by
  funext k
  unfold sgX1_worst
  dsimp only [zI, zL, aI, aL]
  repeat rw [if_neg (by omega)]
abbrev rmX1_worst : Room := { frames := 52, cells := 0, slots := 0, locals := 1410 }
set_option maxHeartbeats 4000000 in
theorem wkX1_worst {x1 : Int32} {r_ : Int32} {w_zI1018 : Int32} {w_zI1019 : Int32} {w_zI1020 : Int32} {w_zI1062 : Int32} {w_zI1082 : Int32} {w_zI1092 : Int32} {w_zI1094 : Int32} {w_zI1095 : Int32} {w_zL1052 : Int64} {w_aI1108 : Nat → Int32} {w_aI1160 : Nat → Int32} {w_aI1162 : Nat → Int32} {w_aI1163 : Nat → Int32} {w_aL1140 : Nat → Int64} {w_aL1141 : Nat → Int64} {w_aL1150 : Nat → Int64} {w_aL1152 : Nat → Int64} {w_aL1153 : Nat → Int64} (E : EN p s m args meth c0 RX1 cX1_worst 3 (Option.some Jvm.ClassFile.FieldType.int)) (hX : KX D G ad A s s.heap) (hD : XD dsc nr nw nu) (hA : ∀ q, PA dsc ad s.heap.size q → A q) (hf : xo_X1_worst (σ.1 1018) (σ.1 1019) (σ.1 1020) (σ.1 1062) (σ.1 1082) (σ.1 1092) (σ.1 1094) (σ.1 1095) (σ.1 1262) (σ.1 1485) (σ.1 2008) (σ.1 2009) (σ.1 2012) (σ.1 2013) (σ.1 2027) (σ.1 2032) (σ.2.1 1052) (σ.2.1 1061) (σ.2.1 1081) (σ.2.1 1091) (σ.2.2.1 1108) (σ.2.2.1 1160) (σ.2.2.1 1162) (σ.2.2.1 1163) (σ.2.2.1 1164) (σ.2.2.1 1170) (σ.2.2.1 1265) (σ.2.2.1 2036) (σ.2.2.1 2037) (σ.2.2.1 2042) (σ.2.2.1 2043) (σ.2.2.2.1 1140) (σ.2.2.2.1 1141) (σ.2.2.2.1 1150) (σ.2.2.2.1 1152) (σ.2.2.2.1 1153) nr nw nu (fun k => σ.1 (6000 + 16 * k + 2)) (fun k => σ.1 (6000 + 16 * k + 3)) (fun k => σ.1 (6000 + 16 * k + 4)) (fun k => σ.1 (6000 + 16 * k + 5)) (fun k => σ.1 (6000 + 16 * k + 6)) (fun k => σ.1 (8000 + 16 * k + 0)) (fun k => σ.1 (8000 + 16 * k + 1)) (fun k => σ.1 (8000 + 16 * k + 2)) (fun k => σ.1 (10000 + 16 * k + 0)) (fun k => σ.1 (10000 + 16 * k + 1)) (fun k => σ.1 (10000 + 16 * k + 2)) (fun k => σ.1 (10000 + 16 * k + 3)) (fun k => σ.2.2.1 (4000 + 16 * k)) x1 = some (r_, w_zI1018, w_zI1019, w_zI1020, w_zI1062, w_zI1082, w_zI1092, w_zI1094, w_zI1095, w_zL1052, w_aI1108, w_aI1160, w_aI1162, w_aI1163, w_aL1140, w_aL1141, w_aL1150, w_aL1152, w_aL1153)) (hQ : Q = MQ below (va_G1 (some (.int r_)) (fun t => PIC D clsA G dsc ad (sgX1_worst σ w_zI1018 w_zI1019 w_zI1020 w_zI1062 w_zI1082 w_zI1092 w_zI1094 w_zI1095 w_zL1052 w_aI1108 w_aI1160 w_aI1162 w_aI1163 w_aL1140 w_aL1141 w_aL1150 w_aL1152 w_aL1153) t.heap) A) args s 0 0 A) (hP : PIC D clsA G dsc ad σ H) (hS : va_S A s.heap H locs) (hl : lv_has ls 3 [(0, .ref (ad 1000)), (1, .int x1)]) : W p l e rmX1_worst s m args below meth c0 H locs 0 0 Q (F0 m 0 ls []) := by
  obtain ⟨⟨hx, hb, hml, hown, hts⟩, hr, hlk⟩ := id E
  have hP := hP.to (sgX1_worst_self σ).symm
  unfold xo_X1_worst at hf
  refine lv_aload_n hx hb dX1_worst_0 rfl (lv_at hl 0 rfl) ?_
  refine lv_iload_n hx hb dX1_worst_1 rfl (lv_at hl 1 rfl) ?_
  obtain ⟨v1, u2, hf⟩ := bdP hf
  refine cx_X1_315_X1_isPlan E hX hD hP hS hA (kxX1_isPlan l D G hD sgX1_worst_rzI2012 sgX1_worst_rzI2013 u2) ⟨rfl, rfl⟩ ⟨Nat.le_of_ble_eq_true rfl, Nat.le_of_ble_eq_true rfl⟩ ⟨Nat.zero_le _, Nat.zero_le _⟩ hl.1 (Nat.le_of_ble_eq_true rfl) dX1_worst_2 (fun H locs hP hS => ?_)
  refine lv_if_ne (tgt := 10) hx hb dX1_worst_5 (by decide) (fun c3 => ?_) (fun c3 => ?_)
  · have hf := ifF c3 hf
    refine lv_aload_n hx hb dX1_worst_10 rfl (lv_at hl 0 rfl) ?_
    refine lv_iload_n hx hb dX1_worst_11 rfl (lv_at hl 1 rfl) ?_
    obtain ⟨⟨v4, z5, z6, z7, z8, z9, z10, z11, z12, z13, a14, a15, a16, a17, a18, a19, a20⟩, u21, hf⟩ := bdP hf
    dsimp only at hf
    refine cx_X1_318_X1_plan E hX hD hP hS hA (kxX1_plan l D G hD sgX1_worst_rzI1018 sgX1_worst_rzI1019 sgX1_worst_rzI1020 sgX1_worst_rzI1062 sgX1_worst_rzI1082 sgX1_worst_rzI1092 sgX1_worst_rzI1094 sgX1_worst_rzI1095 sgX1_worst_rzI2008 sgX1_worst_rzI2009 sgX1_worst_rzI2012 sgX1_worst_rzI2013 sgX1_worst_rzI2027 sgX1_worst_rzI2032 sgX1_worst_rzL1052 sgX1_worst_rzL1061 sgX1_worst_rzL1081 sgX1_worst_rzL1091 sgX1_worst_raI1108 sgX1_worst_raI1162 sgX1_worst_raI1170 sgX1_worst_raI2036 sgX1_worst_raI2037 sgX1_worst_raI2042 sgX1_worst_raI2043 sgX1_worst_raL1140 sgX1_worst_raL1141 sgX1_worst_raL1150 sgX1_worst_raL1152 sgX1_worst_raL1153 rfl rfl sgX1_worst_rpR2 sgX1_worst_rpR3 sgX1_worst_rpR4 sgX1_worst_rpR5 sgX1_worst_rpR6 sgX1_worst_rpW0 sgX1_worst_rpW1 sgX1_worst_rpW2 sgX1_worst_rgG0 u21) ⟨rfl, rfl⟩ ⟨Nat.le_of_ble_eq_true rfl, Nat.le_of_ble_eq_true rfl⟩ ⟨Nat.zero_le _, Nat.zero_le _⟩ hl.1 (Nat.le_of_ble_eq_true rfl) dX1_worst_12 (fun H locs hP hS => ?_)
    rw [sgX1_worst_zI1018, sgX1_worst_zI1019, sgX1_worst_zI1020, sgX1_worst_zI1062, sgX1_worst_zI1082, sgX1_worst_zI1092, sgX1_worst_zI1094, sgX1_worst_zI1095, sgX1_worst_zL1052, sgX1_worst_aI1108, sgX1_worst_aI1162, sgX1_worst_aL1140, sgX1_worst_aL1141, sgX1_worst_aL1150, sgX1_worst_aL1152, sgX1_worst_aL1153] at hP
    refine r_astore_n (lv' := [(2, va_rf (drf ad 1400 v4)), (0, .ref (ad 1000)), (1, .int x1)]) hx hb dX1_worst_15 rfl hl (by decide) rfl (fun ls hl => ?_)
    refine r_aload_n hx hb dX1_worst_16 rfl (lv_at hl 0 rfl) ?_
    refine r_ifnonnull (tgt := 25) hx hb dX1_worst_17 (by decide) (fun c22 => ?_) (fun c22 => ?_)
    · have hf := ifT c22 hf
      refine lv_bipush hx hb dX1_worst_20 bp_m2 ?_
      refine lv_goto (tgt := 29) hx hb dX1_worst_22 (by decide) ?_
      cases hf
      rw [hQ]; exact g_iret hx hb hr hlk hP hS dX1_worst_29
    · have hf := ifF c22 hf
      refine r_aload_n hx hb dX1_worst_25 rfl (lv_at hl 0 rfl) ?_
      obtain ⟨⟨v23, a24, a25, a26⟩, u27, hf⟩ := bdP hf
      dsimp only at hf
      refine cx_X1_299_D E hX hD hP hS hA sgX1_worst_rzI1062 sgX1_worst_rzI1082 sgX1_worst_rzI1092 sgX1_worst_rzI1094 sgX1_worst_rzI1095 sgX1_worst_rzI1262 sgX1_worst_rzI1485 sgX1_worst_rzI2008 sgX1_worst_rzI2012 sgX1_worst_rzI2013 sgX1_worst_rzI2027 sgX1_worst_rzI2032 sgX1_worst_rzL1061 sgX1_worst_rzL1081 sgX1_worst_rzL1091 sgX1_worst_raI1108 sgX1_worst_raI1160 sgX1_worst_raI1162 sgX1_worst_raI1163 sgX1_worst_raI1164 sgX1_worst_raI1170 sgX1_worst_raI1265 sgX1_worst_raI2037 sgX1_worst_raI2043 sgX1_worst_raL1140 sgX1_worst_raL1141 sgX1_worst_raL1150 sgX1_worst_raL1152 sgX1_worst_raL1153 rfl rfl rfl sgX1_worst_rpR2 sgX1_worst_rpR5 sgX1_worst_rpR6 sgX1_worst_rpW0 sgX1_worst_rpW1 sgX1_worst_rpW2 sgX1_worst_rpU0 sgX1_worst_rpU1 sgX1_worst_rpU2 sgX1_worst_rpU3 sgX1_worst_rgG0 u27 ⟨Nat.le_of_ble_eq_true rfl, Nat.le_of_ble_eq_true rfl⟩ ⟨Nat.zero_le _, Nat.zero_le _⟩ hl.1 (Nat.le_of_ble_eq_true rfl) dX1_worst_26 (fun H locs hP hS => ?_)
      rw [sgX1_worst_aI1160, sgX1_worst_aI1162, sgX1_worst_aI1163] at hP
      cases hf
      rw [hQ]; exact g_iret hx hb hr hlk hP hS dX1_worst_29
  · have hf := ifT c3 hf
    refine lv_iconst hx hb dX1_worst_8 ic_m1 ?_
    cases hf
    rw [hQ]; exact g_iret hx hb hr hlk hP hS dX1_worst_9
theorem kxX1_worst (l : Launch) (D : va_G) (G : Nat → ClassId) {dsc : Nat → Option Dsc} {ad : Nat → Nat} {σ : Sto} {nr nw nu : Nat} (hD : XD dsc nr nw nu) {x1 : Int32} {r_ : Int32} {w_zI1018 : Int32} {w_zI1019 : Int32} {w_zI1020 : Int32} {w_zI1062 : Int32} {w_zI1082 : Int32} {w_zI1092 : Int32} {w_zI1094 : Int32} {w_zI1095 : Int32} {w_zL1052 : Int64} {w_aI1108 : Nat → Int32} {w_aI1160 : Nat → Int32} {w_aI1162 : Nat → Int32} {w_aI1163 : Nat → Int32} {w_aL1140 : Nat → Int64} {w_aL1141 : Nat → Int64} {w_aL1150 : Nat → Int64} {w_aL1152 : Nat → Int64} {w_aL1153 : Nat → Int64} {z_X_isLaid : Int32} (e_zI1018 : σ.1 1018 = z_X_isLaid) {z_X_isFair : Int32} (e_zI1019 : σ.1 1019 = z_X_isFair) {z_X_hasFair : Int32} (e_zI1020 : σ.1 1020 = z_X_hasFair) {z_TB_by : Int32} (e_zI1062 : σ.1 1062 = z_TB_by) {z_TS_by : Int32} (e_zI1082 : σ.1 1082 = z_TS_by) {z_TF_by : Int32} (e_zI1092 : σ.1 1092 = z_TF_by) {z_TF_times : Int32} (e_zI1094 : σ.1 1094 = z_TF_times) {z_TF_of : Int32} (e_zI1095 : σ.1 1095 = z_TF_of) {z_ru_size : Int32} (e_zI1262 : σ.1 1262 = z_ru_size) {z_p5_many : Int32} (e_zI1485 : σ.1 1485 = z_p5_many) {z_L_places : Int32} (e_zI2008 : σ.1 2008 = z_L_places) {z_L_causes : Int32} (e_zI2009 : σ.1 2009 = z_L_causes) {z_L_from : Int32} (e_zI2012 : σ.1 2012 = z_L_from) {z_L_to : Int32} (e_zI2013 : σ.1 2013 = z_L_to) {z_Ld_size : Int32} (e_zI2027 : σ.1 2027 = z_Ld_size) {z_Lw_size : Int32} (e_zI2032 : σ.1 2032 = z_Lw_size) {z_W_all : Int64} (e_zL1052 : σ.2.1 1052 = z_W_all) {z_TB_none : Int64} (e_zL1061 : σ.2.1 1061 = z_TB_none) {z_TS_none : Int64} (e_zL1081 : σ.2.1 1081 = z_TS_none) {z_TF_none : Int64} (e_zL1091 : σ.2.1 1091 = z_TF_none) {a_X_knowing : Nat → Int32} (e_aI1108 : σ.2.2.1 1108 = a_X_knowing) {a_p5_far : Nat → Int32} (e_aI1160 : σ.2.2.1 1160 = a_p5_far) {a_p3_far : Nat → Int32} (e_aI1162 : σ.2.2.1 1162 = a_p3_far) {a_p4_far : Nat → Int32} (e_aI1163 : σ.2.2.1 1163 = a_p4_far) {a_p5_row : Nat → Int32} (e_aI1164 : σ.2.2.1 1164 = a_p5_row) {a_UNIT : Nat → Int32} (e_aI1170 : σ.2.2.1 1170 = a_UNIT) {a_ru_data : Nat → Int32} (e_aI1265 : σ.2.2.1 1265 = a_ru_data) {a_Ld_data : Nat → Int32} (e_aI2036 : σ.2.2.1 2036 = a_Ld_data) {a_Lw_data : Nat → Int32} (e_aI2037 : σ.2.2.1 2037 = a_Lw_data) {a_L_comes : Nat → Int32} (e_aI2042 : σ.2.2.1 2042 = a_L_comes) {a_L_seen : Nat → Int32} (e_aI2043 : σ.2.2.1 2043 = a_L_seen) {a_W_world : Nat → Int64} (e_aL1140 : σ.2.2.2.1 1140 = a_W_world) {a_W_likely : Nat → Int64} (e_aL1141 : σ.2.2.2.1 1141 = a_W_likely) {a_TB_value : Nat → Int64} (e_aL1150 : σ.2.2.2.1 1150 = a_TB_value) {a_TS_value : Nat → Int64} (e_aL1152 : σ.2.2.2.1 1152 = a_TS_value) {a_TF_value : Nat → Int64} (e_aL1153 : σ.2.2.2.1 1153 = a_TF_value) {n_r : Nat} (e_nN0 : nr = n_r) {n_w : Nat} (e_nN1 : nw = n_w) {n_u : Nat} (e_nN2 : nu = n_u) {p_road_hours : Nat → Int32} (e_pR2 : (fun k => σ.1 (6000 + 16 * k + 2)) = p_road_hours) {p_road_doubt : Nat → Int32} (e_pR3 : (fun k => σ.1 (6000 + 16 * k + 3)) = p_road_doubt) {p_road_cause : Nat → Int32} (e_pR4 : (fun k => σ.1 (6000 + 16 * k + 4)) = p_road_cause) {p_road_wait : Nat → Int32} (e_pR5 : (fun k => σ.1 (6000 + 16 * k + 5)) = p_road_wait) {p_road_number : Nat → Int32} (e_pR6 : (fun k => σ.1 (6000 + 16 * k + 6)) = p_road_number) {p_word_place : Nat → Int32} (e_pW0 : (fun k => σ.1 (8000 + 16 * k + 0)) = p_word_place) {p_word_road : Nat → Int32} (e_pW1 : (fun k => σ.1 (8000 + 16 * k + 1)) = p_word_road) {p_word_hours : Nat → Int32} (e_pW2 : (fun k => σ.1 (8000 + 16 * k + 2)) = p_word_hours) {p_rule_place : Nat → Int32} (e_pU0 : (fun k => σ.1 (10000 + 16 * k + 0)) = p_rule_place) {p_rule_road : Nat → Int32} (e_pU1 : (fun k => σ.1 (10000 + 16 * k + 1)) = p_rule_road) {p_rule_known : Nat → Int32} (e_pU2 : (fun k => σ.1 (10000 + 16 * k + 2)) = p_rule_known) {p_rule_to : Nat → Int32} (e_pU3 : (fun k => σ.1 (10000 + 16 * k + 3)) = p_rule_to) {g_grid : Nat → Nat → Int32} (e_gG0 : (fun k => σ.2.2.1 (4000 + 16 * k)) = g_grid) (hf : xo_X1_worst z_X_isLaid z_X_isFair z_X_hasFair z_TB_by z_TS_by z_TF_by z_TF_times z_TF_of z_ru_size z_p5_many z_L_places z_L_causes z_L_from z_L_to z_Ld_size z_Lw_size z_W_all z_TB_none z_TS_none z_TF_none a_X_knowing a_p5_far a_p3_far a_p4_far a_p5_row a_UNIT a_ru_data a_Ld_data a_Lw_data a_L_comes a_L_seen a_W_world a_W_likely a_TB_value a_TS_value a_TF_value n_r n_w n_u p_road_hours p_road_doubt p_road_cause p_road_wait p_road_number p_word_place p_word_road p_word_hours p_rule_place p_rule_road p_rule_known p_rule_to g_grid x1 = some (r_, w_zI1018, w_zI1019, w_zI1020, w_zI1062, w_zI1082, w_zI1092, w_zI1094, w_zI1095, w_zL1052, w_aI1108, w_aI1160, w_aI1162, w_aI1163, w_aL1140, w_aL1141, w_aL1150, w_aL1152, w_aL1153)) : CtG l D G dsc ad yX1_worst (ws_ yX1_worst cX1_worst 3 (Option.some Jvm.ClassFile.FieldType.int)) rmX1_worst [.ref (ad 1000), .int x1] σ (some (.int r_)) (aL (aL (aL (aL (aL (aI (aI (aI (aI (zL (zI (zI (zI (zI (zI (zI (zI (zI σ 1018 w_zI1018) 1019 w_zI1019) 1020 w_zI1020) 1062 w_zI1062) 1082 w_zI1082) 1092 w_zI1092) 1094 w_zI1094) 1095 w_zI1095) 1052 w_zL1052) 1108 w_aI1108) 1160 w_aI1160) 1162 w_aI1162) 1163 w_aI1163) 1140 w_aL1140) 1141 w_aL1141) 1150 w_aL1150) 1152 w_aL1152) 1153 w_aL1153) := by
  subst e_zI1018
  subst e_zI1019
  subst e_zI1020
  subst e_zI1062
  subst e_zI1082
  subst e_zI1092
  subst e_zI1094
  subst e_zI1095
  subst e_zI1262
  subst e_zI1485
  subst e_zI2008
  subst e_zI2009
  subst e_zI2012
  subst e_zI2013
  subst e_zI2027
  subst e_zI2032
  subst e_zL1052
  subst e_zL1061
  subst e_zL1081
  subst e_zL1091
  subst e_aI1108
  subst e_aI1160
  subst e_aI1162
  subst e_aI1163
  subst e_aI1164
  subst e_aI1170
  subst e_aI1265
  subst e_aI2036
  subst e_aI2037
  subst e_aI2042
  subst e_aI2043
  subst e_aL1140
  subst e_aL1141
  subst e_aL1150
  subst e_aL1152
  subst e_aL1153
  subst e_nN0
  subst e_nN1
  subst e_nN2
  subst e_pR2
  subst e_pR3
  subst e_pR4
  subst e_pR5
  subst e_pR6
  subst e_pW0
  subst e_pW1
  subst e_pW2
  subst e_pU0
  subst e_pU1
  subst e_pU2
  subst e_pU3
  subst e_gG0
  exact p_ctG (by decide +kernel) (Nat.le_of_ble_eq_true rfl) (fun p e s m below meth c0 ls A E hP hX hA hS hl => wkX1_worst E hX hD hA hf rfl hP hS hl)
/-! X1_worth (I)J -/
def sgX1_worth (σ : Sto) (w0 : Int32) (w1 : Int32) (w2 : Int32) (w3 : Int64) (w4 : Nat → Int32) (w5 : Nat → Int32) (w6 : Nat → Int64) (w7 : Nat → Int64) (w8 : Nat → Int64) (w9 : Nat → Int64) : Sto := aL (aL (aL (aL (aI (aI (zL (zI (zI (zI σ 1018 w0) 1062 w1) 1082 w2) 1052 w3) 1108 w4) 1162 w5) 1140 w6) 1141 w7) 1150 w8) 1152 w9
theorem sgX1_worth_self (σ : Sto) : sgX1_worth σ (σ.1 1018) (σ.1 1062) (σ.1 1082) (σ.2.1 1052) (σ.2.2.1 1108) (σ.2.2.1 1162) (σ.2.2.2.1 1140) (σ.2.2.2.1 1141) (σ.2.2.2.1 1150) (σ.2.2.2.1 1152) = σ := by
  unfold sgX1_worth
  simp only [zI_self, zL_self, aI_self, aL_self]
theorem sgX1_worth_zI1018 {σ : Sto} {w0 : Int32} {w1 : Int32} {w2 : Int32} {w3 : Int64} {w4 : Nat → Int32} {w5 : Nat → Int32} {w6 : Nat → Int64} {w7 : Nat → Int64} {w8 : Nat → Int64} {w9 : Nat → Int64} {g : Int32} : zI (sgX1_worth σ w0 w1 w2 w3 w4 w5 w6 w7 w8 w9) 1018 g = sgX1_worth σ g w1 w2 w3 w4 w5 w6 w7 w8 w9 := (cm_zI_aL _ _ _ _ _).trans (congrArg (fun z => aL z 1152 w9) ((cm_zI_aL _ _ _ _ _).trans (congrArg (fun z => aL z 1150 w8) ((cm_zI_aL _ _ _ _ _).trans (congrArg (fun z => aL z 1141 w7) ((cm_zI_aL _ _ _ _ _).trans (congrArg (fun z => aL z 1140 w6) ((cm_zI_aI _ _ _ _ _).trans (congrArg (fun z => aI z 1162 w5) ((cm_zI_aI _ _ _ _ _).trans (congrArg (fun z => aI z 1108 w4) ((cm_zI_zL _ _ _ _ _).trans (congrArg (fun z => zL z 1052 w3) ((zI_comm _ (by decide) _ _).trans (congrArg (fun z => zI z 1082 w2) ((zI_comm _ (by decide) _ _).trans (congrArg (fun z => zI z 1062 w1) (zI_zI _ 1018 _ _))))))))))))))))))
theorem sgX1_worth_zI1062 {σ : Sto} {w0 : Int32} {w1 : Int32} {w2 : Int32} {w3 : Int64} {w4 : Nat → Int32} {w5 : Nat → Int32} {w6 : Nat → Int64} {w7 : Nat → Int64} {w8 : Nat → Int64} {w9 : Nat → Int64} {g : Int32} : zI (sgX1_worth σ w0 w1 w2 w3 w4 w5 w6 w7 w8 w9) 1062 g = sgX1_worth σ w0 g w2 w3 w4 w5 w6 w7 w8 w9 := (cm_zI_aL _ _ _ _ _).trans (congrArg (fun z => aL z 1152 w9) ((cm_zI_aL _ _ _ _ _).trans (congrArg (fun z => aL z 1150 w8) ((cm_zI_aL _ _ _ _ _).trans (congrArg (fun z => aL z 1141 w7) ((cm_zI_aL _ _ _ _ _).trans (congrArg (fun z => aL z 1140 w6) ((cm_zI_aI _ _ _ _ _).trans (congrArg (fun z => aI z 1162 w5) ((cm_zI_aI _ _ _ _ _).trans (congrArg (fun z => aI z 1108 w4) ((cm_zI_zL _ _ _ _ _).trans (congrArg (fun z => zL z 1052 w3) ((zI_comm _ (by decide) _ _).trans (congrArg (fun z => zI z 1082 w2) (zI_zI _ 1062 _ _))))))))))))))))
theorem sgX1_worth_zI1082 {σ : Sto} {w0 : Int32} {w1 : Int32} {w2 : Int32} {w3 : Int64} {w4 : Nat → Int32} {w5 : Nat → Int32} {w6 : Nat → Int64} {w7 : Nat → Int64} {w8 : Nat → Int64} {w9 : Nat → Int64} {g : Int32} : zI (sgX1_worth σ w0 w1 w2 w3 w4 w5 w6 w7 w8 w9) 1082 g = sgX1_worth σ w0 w1 g w3 w4 w5 w6 w7 w8 w9 := (cm_zI_aL _ _ _ _ _).trans (congrArg (fun z => aL z 1152 w9) ((cm_zI_aL _ _ _ _ _).trans (congrArg (fun z => aL z 1150 w8) ((cm_zI_aL _ _ _ _ _).trans (congrArg (fun z => aL z 1141 w7) ((cm_zI_aL _ _ _ _ _).trans (congrArg (fun z => aL z 1140 w6) ((cm_zI_aI _ _ _ _ _).trans (congrArg (fun z => aI z 1162 w5) ((cm_zI_aI _ _ _ _ _).trans (congrArg (fun z => aI z 1108 w4) ((cm_zI_zL _ _ _ _ _).trans (congrArg (fun z => zL z 1052 w3) (zI_zI _ 1082 _ _))))))))))))))
theorem sgX1_worth_zL1052 {σ : Sto} {w0 : Int32} {w1 : Int32} {w2 : Int32} {w3 : Int64} {w4 : Nat → Int32} {w5 : Nat → Int32} {w6 : Nat → Int64} {w7 : Nat → Int64} {w8 : Nat → Int64} {w9 : Nat → Int64} {g : Int64} : zL (sgX1_worth σ w0 w1 w2 w3 w4 w5 w6 w7 w8 w9) 1052 g = sgX1_worth σ w0 w1 w2 g w4 w5 w6 w7 w8 w9 := (cm_zL_aL _ _ _ _ _).trans (congrArg (fun z => aL z 1152 w9) ((cm_zL_aL _ _ _ _ _).trans (congrArg (fun z => aL z 1150 w8) ((cm_zL_aL _ _ _ _ _).trans (congrArg (fun z => aL z 1141 w7) ((cm_zL_aL _ _ _ _ _).trans (congrArg (fun z => aL z 1140 w6) ((cm_zL_aI _ _ _ _ _).trans (congrArg (fun z => aI z 1162 w5) ((cm_zL_aI _ _ _ _ _).trans (congrArg (fun z => aI z 1108 w4) (zL_zL _ 1052 _ _))))))))))))
theorem sgX1_worth_aI1108 {σ : Sto} {w0 : Int32} {w1 : Int32} {w2 : Int32} {w3 : Int64} {w4 : Nat → Int32} {w5 : Nat → Int32} {w6 : Nat → Int64} {w7 : Nat → Int64} {w8 : Nat → Int64} {w9 : Nat → Int64} {g : Nat → Int32} : aI (sgX1_worth σ w0 w1 w2 w3 w4 w5 w6 w7 w8 w9) 1108 g = sgX1_worth σ w0 w1 w2 w3 g w5 w6 w7 w8 w9 := (cm_aI_aL _ _ _ _ _).trans (congrArg (fun z => aL z 1152 w9) ((cm_aI_aL _ _ _ _ _).trans (congrArg (fun z => aL z 1150 w8) ((cm_aI_aL _ _ _ _ _).trans (congrArg (fun z => aL z 1141 w7) ((cm_aI_aL _ _ _ _ _).trans (congrArg (fun z => aL z 1140 w6) ((aI_comm _ (by decide) _ _).trans (congrArg (fun z => aI z 1162 w5) (aI_aI _ 1108 _ _))))))))))
theorem sgX1_worth_aI1162 {σ : Sto} {w0 : Int32} {w1 : Int32} {w2 : Int32} {w3 : Int64} {w4 : Nat → Int32} {w5 : Nat → Int32} {w6 : Nat → Int64} {w7 : Nat → Int64} {w8 : Nat → Int64} {w9 : Nat → Int64} {g : Nat → Int32} : aI (sgX1_worth σ w0 w1 w2 w3 w4 w5 w6 w7 w8 w9) 1162 g = sgX1_worth σ w0 w1 w2 w3 w4 g w6 w7 w8 w9 := (cm_aI_aL _ _ _ _ _).trans (congrArg (fun z => aL z 1152 w9) ((cm_aI_aL _ _ _ _ _).trans (congrArg (fun z => aL z 1150 w8) ((cm_aI_aL _ _ _ _ _).trans (congrArg (fun z => aL z 1141 w7) ((cm_aI_aL _ _ _ _ _).trans (congrArg (fun z => aL z 1140 w6) (aI_aI _ 1162 _ _))))))))
theorem sgX1_worth_aL1140 {σ : Sto} {w0 : Int32} {w1 : Int32} {w2 : Int32} {w3 : Int64} {w4 : Nat → Int32} {w5 : Nat → Int32} {w6 : Nat → Int64} {w7 : Nat → Int64} {w8 : Nat → Int64} {w9 : Nat → Int64} {g : Nat → Int64} : aL (sgX1_worth σ w0 w1 w2 w3 w4 w5 w6 w7 w8 w9) 1140 g = sgX1_worth σ w0 w1 w2 w3 w4 w5 g w7 w8 w9 := (aL_comm _ (by decide) _ _).trans (congrArg (fun z => aL z 1152 w9) ((aL_comm _ (by decide) _ _).trans (congrArg (fun z => aL z 1150 w8) ((aL_comm _ (by decide) _ _).trans (congrArg (fun z => aL z 1141 w7) (aL_aL _ 1140 _ _))))))
theorem sgX1_worth_aL1141 {σ : Sto} {w0 : Int32} {w1 : Int32} {w2 : Int32} {w3 : Int64} {w4 : Nat → Int32} {w5 : Nat → Int32} {w6 : Nat → Int64} {w7 : Nat → Int64} {w8 : Nat → Int64} {w9 : Nat → Int64} {g : Nat → Int64} : aL (sgX1_worth σ w0 w1 w2 w3 w4 w5 w6 w7 w8 w9) 1141 g = sgX1_worth σ w0 w1 w2 w3 w4 w5 w6 g w8 w9 := (aL_comm _ (by decide) _ _).trans (congrArg (fun z => aL z 1152 w9) ((aL_comm _ (by decide) _ _).trans (congrArg (fun z => aL z 1150 w8) (aL_aL _ 1141 _ _))))
theorem sgX1_worth_aL1150 {σ : Sto} {w0 : Int32} {w1 : Int32} {w2 : Int32} {w3 : Int64} {w4 : Nat → Int32} {w5 : Nat → Int32} {w6 : Nat → Int64} {w7 : Nat → Int64} {w8 : Nat → Int64} {w9 : Nat → Int64} {g : Nat → Int64} : aL (sgX1_worth σ w0 w1 w2 w3 w4 w5 w6 w7 w8 w9) 1150 g = sgX1_worth σ w0 w1 w2 w3 w4 w5 w6 w7 g w9 := (aL_comm _ (by decide) _ _).trans (congrArg (fun z => aL z 1152 w9) (aL_aL _ 1150 _ _))
theorem sgX1_worth_aL1152 {σ : Sto} {w0 : Int32} {w1 : Int32} {w2 : Int32} {w3 : Int64} {w4 : Nat → Int32} {w5 : Nat → Int32} {w6 : Nat → Int64} {w7 : Nat → Int64} {w8 : Nat → Int64} {w9 : Nat → Int64} {g : Nat → Int64} : aL (sgX1_worth σ w0 w1 w2 w3 w4 w5 w6 w7 w8 w9) 1152 g = sgX1_worth σ w0 w1 w2 w3 w4 w5 w6 w7 w8 g := aL_aL _ 1152 _ _
theorem sgX1_worth_rzI1018 {σ : Sto} {w0 : Int32} {w1 : Int32} {w2 : Int32} {w3 : Int64} {w4 : Nat → Int32} {w5 : Nat → Int32} {w6 : Nat → Int64} {w7 : Nat → Int64} {w8 : Nat → Int64} {w9 : Nat → Int64} : (sgX1_worth σ w0 w1 w2 w3 w4 w5 w6 w7 w8 w9).1 1018 = w0 := rfl
theorem sgX1_worth_rzI1062 {σ : Sto} {w0 : Int32} {w1 : Int32} {w2 : Int32} {w3 : Int64} {w4 : Nat → Int32} {w5 : Nat → Int32} {w6 : Nat → Int64} {w7 : Nat → Int64} {w8 : Nat → Int64} {w9 : Nat → Int64} : (sgX1_worth σ w0 w1 w2 w3 w4 w5 w6 w7 w8 w9).1 1062 = w1 := rfl
theorem sgX1_worth_rzI1082 {σ : Sto} {w0 : Int32} {w1 : Int32} {w2 : Int32} {w3 : Int64} {w4 : Nat → Int32} {w5 : Nat → Int32} {w6 : Nat → Int64} {w7 : Nat → Int64} {w8 : Nat → Int64} {w9 : Nat → Int64} : (sgX1_worth σ w0 w1 w2 w3 w4 w5 w6 w7 w8 w9).1 1082 = w2 := rfl
theorem sgX1_worth_rzI2008 {σ : Sto} {w0 : Int32} {w1 : Int32} {w2 : Int32} {w3 : Int64} {w4 : Nat → Int32} {w5 : Nat → Int32} {w6 : Nat → Int64} {w7 : Nat → Int64} {w8 : Nat → Int64} {w9 : Nat → Int64} : (sgX1_worth σ w0 w1 w2 w3 w4 w5 w6 w7 w8 w9).1 2008 = σ.1 2008 := rfl
theorem sgX1_worth_rzI2009 {σ : Sto} {w0 : Int32} {w1 : Int32} {w2 : Int32} {w3 : Int64} {w4 : Nat → Int32} {w5 : Nat → Int32} {w6 : Nat → Int64} {w7 : Nat → Int64} {w8 : Nat → Int64} {w9 : Nat → Int64} : (sgX1_worth σ w0 w1 w2 w3 w4 w5 w6 w7 w8 w9).1 2009 = σ.1 2009 := rfl
theorem sgX1_worth_rzI2012 {σ : Sto} {w0 : Int32} {w1 : Int32} {w2 : Int32} {w3 : Int64} {w4 : Nat → Int32} {w5 : Nat → Int32} {w6 : Nat → Int64} {w7 : Nat → Int64} {w8 : Nat → Int64} {w9 : Nat → Int64} : (sgX1_worth σ w0 w1 w2 w3 w4 w5 w6 w7 w8 w9).1 2012 = σ.1 2012 := rfl
theorem sgX1_worth_rzI2013 {σ : Sto} {w0 : Int32} {w1 : Int32} {w2 : Int32} {w3 : Int64} {w4 : Nat → Int32} {w5 : Nat → Int32} {w6 : Nat → Int64} {w7 : Nat → Int64} {w8 : Nat → Int64} {w9 : Nat → Int64} : (sgX1_worth σ w0 w1 w2 w3 w4 w5 w6 w7 w8 w9).1 2013 = σ.1 2013 := rfl
theorem sgX1_worth_rzI2027 {σ : Sto} {w0 : Int32} {w1 : Int32} {w2 : Int32} {w3 : Int64} {w4 : Nat → Int32} {w5 : Nat → Int32} {w6 : Nat → Int64} {w7 : Nat → Int64} {w8 : Nat → Int64} {w9 : Nat → Int64} : (sgX1_worth σ w0 w1 w2 w3 w4 w5 w6 w7 w8 w9).1 2027 = σ.1 2027 := rfl
theorem sgX1_worth_rzI2032 {σ : Sto} {w0 : Int32} {w1 : Int32} {w2 : Int32} {w3 : Int64} {w4 : Nat → Int32} {w5 : Nat → Int32} {w6 : Nat → Int64} {w7 : Nat → Int64} {w8 : Nat → Int64} {w9 : Nat → Int64} : (sgX1_worth σ w0 w1 w2 w3 w4 w5 w6 w7 w8 w9).1 2032 = σ.1 2032 := rfl
theorem sgX1_worth_rzL1052 {σ : Sto} {w0 : Int32} {w1 : Int32} {w2 : Int32} {w3 : Int64} {w4 : Nat → Int32} {w5 : Nat → Int32} {w6 : Nat → Int64} {w7 : Nat → Int64} {w8 : Nat → Int64} {w9 : Nat → Int64} : (sgX1_worth σ w0 w1 w2 w3 w4 w5 w6 w7 w8 w9).2.1 1052 = w3 := rfl
theorem sgX1_worth_rzL1061 {σ : Sto} {w0 : Int32} {w1 : Int32} {w2 : Int32} {w3 : Int64} {w4 : Nat → Int32} {w5 : Nat → Int32} {w6 : Nat → Int64} {w7 : Nat → Int64} {w8 : Nat → Int64} {w9 : Nat → Int64} : (sgX1_worth σ w0 w1 w2 w3 w4 w5 w6 w7 w8 w9).2.1 1061 = σ.2.1 1061 := rfl
theorem sgX1_worth_rzL1081 {σ : Sto} {w0 : Int32} {w1 : Int32} {w2 : Int32} {w3 : Int64} {w4 : Nat → Int32} {w5 : Nat → Int32} {w6 : Nat → Int64} {w7 : Nat → Int64} {w8 : Nat → Int64} {w9 : Nat → Int64} : (sgX1_worth σ w0 w1 w2 w3 w4 w5 w6 w7 w8 w9).2.1 1081 = σ.2.1 1081 := rfl
theorem sgX1_worth_raI1108 {σ : Sto} {w0 : Int32} {w1 : Int32} {w2 : Int32} {w3 : Int64} {w4 : Nat → Int32} {w5 : Nat → Int32} {w6 : Nat → Int64} {w7 : Nat → Int64} {w8 : Nat → Int64} {w9 : Nat → Int64} : (sgX1_worth σ w0 w1 w2 w3 w4 w5 w6 w7 w8 w9).2.2.1 1108 = w4 := rfl
theorem sgX1_worth_raI1162 {σ : Sto} {w0 : Int32} {w1 : Int32} {w2 : Int32} {w3 : Int64} {w4 : Nat → Int32} {w5 : Nat → Int32} {w6 : Nat → Int64} {w7 : Nat → Int64} {w8 : Nat → Int64} {w9 : Nat → Int64} : (sgX1_worth σ w0 w1 w2 w3 w4 w5 w6 w7 w8 w9).2.2.1 1162 = w5 := rfl
theorem sgX1_worth_raI1170 {σ : Sto} {w0 : Int32} {w1 : Int32} {w2 : Int32} {w3 : Int64} {w4 : Nat → Int32} {w5 : Nat → Int32} {w6 : Nat → Int64} {w7 : Nat → Int64} {w8 : Nat → Int64} {w9 : Nat → Int64} : (sgX1_worth σ w0 w1 w2 w3 w4 w5 w6 w7 w8 w9).2.2.1 1170 = σ.2.2.1 1170 := rfl
theorem sgX1_worth_raI2036 {σ : Sto} {w0 : Int32} {w1 : Int32} {w2 : Int32} {w3 : Int64} {w4 : Nat → Int32} {w5 : Nat → Int32} {w6 : Nat → Int64} {w7 : Nat → Int64} {w8 : Nat → Int64} {w9 : Nat → Int64} : (sgX1_worth σ w0 w1 w2 w3 w4 w5 w6 w7 w8 w9).2.2.1 2036 = σ.2.2.1 2036 := rfl
theorem sgX1_worth_raI2037 {σ : Sto} {w0 : Int32} {w1 : Int32} {w2 : Int32} {w3 : Int64} {w4 : Nat → Int32} {w5 : Nat → Int32} {w6 : Nat → Int64} {w7 : Nat → Int64} {w8 : Nat → Int64} {w9 : Nat → Int64} : (sgX1_worth σ w0 w1 w2 w3 w4 w5 w6 w7 w8 w9).2.2.1 2037 = σ.2.2.1 2037 := rfl
theorem sgX1_worth_raI2042 {σ : Sto} {w0 : Int32} {w1 : Int32} {w2 : Int32} {w3 : Int64} {w4 : Nat → Int32} {w5 : Nat → Int32} {w6 : Nat → Int64} {w7 : Nat → Int64} {w8 : Nat → Int64} {w9 : Nat → Int64} : (sgX1_worth σ w0 w1 w2 w3 w4 w5 w6 w7 w8 w9).2.2.1 2042 = σ.2.2.1 2042 := rfl
theorem sgX1_worth_raI2043 {σ : Sto} {w0 : Int32} {w1 : Int32} {w2 : Int32} {w3 : Int64} {w4 : Nat → Int32} {w5 : Nat → Int32} {w6 : Nat → Int64} {w7 : Nat → Int64} {w8 : Nat → Int64} {w9 : Nat → Int64} : (sgX1_worth σ w0 w1 w2 w3 w4 w5 w6 w7 w8 w9).2.2.1 2043 = σ.2.2.1 2043 := rfl
theorem sgX1_worth_raL1140 {σ : Sto} {w0 : Int32} {w1 : Int32} {w2 : Int32} {w3 : Int64} {w4 : Nat → Int32} {w5 : Nat → Int32} {w6 : Nat → Int64} {w7 : Nat → Int64} {w8 : Nat → Int64} {w9 : Nat → Int64} : (sgX1_worth σ w0 w1 w2 w3 w4 w5 w6 w7 w8 w9).2.2.2.1 1140 = w6 := rfl
theorem sgX1_worth_raL1141 {σ : Sto} {w0 : Int32} {w1 : Int32} {w2 : Int32} {w3 : Int64} {w4 : Nat → Int32} {w5 : Nat → Int32} {w6 : Nat → Int64} {w7 : Nat → Int64} {w8 : Nat → Int64} {w9 : Nat → Int64} : (sgX1_worth σ w0 w1 w2 w3 w4 w5 w6 w7 w8 w9).2.2.2.1 1141 = w7 := rfl
theorem sgX1_worth_raL1150 {σ : Sto} {w0 : Int32} {w1 : Int32} {w2 : Int32} {w3 : Int64} {w4 : Nat → Int32} {w5 : Nat → Int32} {w6 : Nat → Int64} {w7 : Nat → Int64} {w8 : Nat → Int64} {w9 : Nat → Int64} : (sgX1_worth σ w0 w1 w2 w3 w4 w5 w6 w7 w8 w9).2.2.2.1 1150 = w8 := rfl
theorem sgX1_worth_raL1152 {σ : Sto} {w0 : Int32} {w1 : Int32} {w2 : Int32} {w3 : Int64} {w4 : Nat → Int32} {w5 : Nat → Int32} {w6 : Nat → Int64} {w7 : Nat → Int64} {w8 : Nat → Int64} {w9 : Nat → Int64} : (sgX1_worth σ w0 w1 w2 w3 w4 w5 w6 w7 w8 w9).2.2.2.1 1152 = w9 := rfl
theorem sgX1_worth_rpR2 {σ : Sto} {w0 : Int32} {w1 : Int32} {w2 : Int32} {w3 : Int64} {w4 : Nat → Int32} {w5 : Nat → Int32} {w6 : Nat → Int64} {w7 : Nat → Int64} {w8 : Nat → Int64} {w9 : Nat → Int64} : (fun k => (sgX1_worth σ w0 w1 w2 w3 w4 w5 w6 w7 w8 w9).1 (6000 + 16 * k + 2)) = (fun k => σ.1 (6000 + 16 * k + 2)) := by
  funext k
  unfold sgX1_worth
  dsimp only [zI, zL, aI, aL]
  repeat rw [if_neg (by omega)]
theorem sgX1_worth_rpR3 {σ : Sto} {w0 : Int32} {w1 : Int32} {w2 : Int32} {w3 : Int64} {w4 : Nat → Int32} {w5 : Nat → Int32} {w6 : Nat → Int64} {w7 : Nat → Int64} {w8 : Nat → Int64} {w9 : Nat → Int64} : (fun k => (sgX1_worth σ w0 w1 w2 w3 w4 w5 w6 w7 w8 w9).1 (6000 + 16 * k + 3)) = (fun k => σ.1 (6000 + 16 * k + 3)) := by
  funext k
  unfold sgX1_worth
  dsimp only [zI, zL, aI, aL]
  repeat rw [if_neg (by omega)]
theorem sgX1_worth_rpR4 {σ : Sto} {w0 : Int32} {w1 : Int32} {w2 : Int32} {w3 : Int64} {w4 : Nat → Int32} {w5 : Nat → Int32} {w6 : Nat → Int64} {w7 : Nat → Int64} {w8 : Nat → Int64} {w9 : Nat → Int64} : (fun k => (sgX1_worth σ w0 w1 w2 w3 w4 w5 w6 w7 w8 w9).1 (6000 + 16 * k + 4)) = (fun k => σ.1 (6000 + 16 * k + 4)) := by
  funext k
  unfold sgX1_worth
  dsimp only [zI, zL, aI, aL]
  repeat rw [if_neg (by omega)]
theorem sgX1_worth_rpR5 {σ : Sto} {w0 : Int32} {w1 : Int32} {w2 : Int32} {w3 : Int64} {w4 : Nat → Int32} {w5 : Nat → Int32} {w6 : Nat → Int64} {w7 : Nat → Int64} {w8 : Nat → Int64} {w9 : Nat → Int64} : (fun k => (sgX1_worth σ w0 w1 w2 w3 w4 w5 w6 w7 w8 w9).1 (6000 + 16 * k + 5)) = (fun k => σ.1 (6000 + 16 * k + 5)) := by
  funext k
  unfold sgX1_worth
  dsimp only [zI, zL, aI, aL]
  repeat rw [if_neg (by omega)]
theorem sgX1_worth_rpR6 {σ : Sto} {w0 : Int32} {w1 : Int32} {w2 : Int32} {w3 : Int64} {w4 : Nat → Int32} {w5 : Nat → Int32} {w6 : Nat → Int64} {w7 : Nat → Int64} {w8 : Nat → Int64} {w9 : Nat → Int64} : (fun k => (sgX1_worth σ w0 w1 w2 w3 w4 w5 w6 w7 w8 w9).1 (6000 + 16 * k + 6)) = (fun k => σ.1 (6000 + 16 * k + 6)) := by
  funext k
  unfold sgX1_worth
  dsimp only [zI, zL, aI, aL]
  repeat rw [if_neg (by omega)]
theorem sgX1_worth_rpW0 {σ : Sto} {w0 : Int32} {w1 : Int32} {w2 : Int32} {w3 : Int64} {w4 : Nat → Int32} {w5 : Nat → Int32} {w6 : Nat → Int64} {w7 : Nat → Int64} {w8 : Nat → Int64} {w9 : Nat → Int64} : (fun k => (sgX1_worth σ w0 w1 w2 w3 w4 w5 w6 w7 w8 w9).1 (8000 + 16 * k + 0)) = (fun k => σ.1 (8000 + 16 * k + 0)) := by
  funext k
  unfold sgX1_worth
  dsimp only [zI, zL, aI, aL]
  repeat rw [if_neg (by omega)]
theorem sgX1_worth_rpW1 {σ : Sto} {w0 : Int32} {w1 : Int32} {w2 : Int32} {w3 : Int64} {w4 : Nat → Int32} {w5 : Nat → Int32} {w6 : Nat → Int64} {w7 : Nat → Int64} {w8 : Nat → Int64} {w9 : Nat → Int64} : (fun k => (sgX1_worth σ w0 w1 w2 w3 w4 w5 w6 w7 w8 w9).1 (8000 + 16 * k + 1)) = (fun k => σ.1 (8000 + 16 * k + 1)) := by
  funext k
  unfold sgX1_worth
  dsimp only [zI, zL, aI, aL]
  repeat rw [if_neg (by omega)]
theorem sgX1_worth_rpW2 {σ : Sto} {w0 : Int32} {w1 : Int32} {w2 : Int32} {w3 : Int64} {w4 : Nat → Int32} {w5 : Nat → Int32} {w6 : Nat → Int64} {w7 : Nat → Int64} {w8 : Nat → Int64} {w9 : Nat → Int64} : (fun k => (sgX1_worth σ w0 w1 w2 w3 w4 w5 w6 w7 w8 w9).1 (8000 + 16 * k + 2)) = (fun k => σ.1 (8000 + 16 * k + 2)) := by
  funext k
  unfold sgX1_worth
  dsimp only [zI, zL, aI, aL]
  repeat rw [if_neg (by omega)]
theorem sgX1_worth_rgG0 {σ : Sto} {w0 : Int32} {w1 : Int32} {w2 : Int32} {w3 : Int64} {w4 : Nat → Int32} {w5 : Nat → Int32} {w6 : Nat → Int64} {w7 : Nat → Int64} {w8 : Nat → Int64} {w9 : Nat → Int64} : (fun k => (sgX1_worth σ w0 w1 w2 w3 w4 w5 w6 w7 w8 w9).2.2.1 (4000 + 16 * k)) = (fun k => σ.2.2.1 (4000 + 16 * k)) := by
  funext k
  unfold sgX1_worth
  dsimp only [zI, zL, aI, aL]
  repeat rw [if_neg (by omega)]
abbrev rmX1_worth : Room := { frames := 49, cells := 0, slots := 0, locals := 1337 }
set_option maxHeartbeats 4000000 in
theorem wkX1_worth {x1 : Int32} {r_ : Int64} {w_zI1018 : Int32} {w_zI1062 : Int32} {w_zI1082 : Int32} {w_zL1052 : Int64} {w_aI1108 : Nat → Int32} {w_aI1162 : Nat → Int32} {w_aL1140 : Nat → Int64} {w_aL1141 : Nat → Int64} {w_aL1150 : Nat → Int64} {w_aL1152 : Nat → Int64} (E : EN p s m args meth c0 RX1 cX1_worth 6 (Option.some Jvm.ClassFile.FieldType.long)) (hX : KX D G ad A s s.heap) (hD : XD dsc nr nw nu) (hA : ∀ q, PA dsc ad s.heap.size q → A q) (hf : xo_X1_worth (σ.1 1018) (σ.1 1062) (σ.1 1082) (σ.1 2008) (σ.1 2009) (σ.1 2012) (σ.1 2013) (σ.1 2027) (σ.1 2032) (σ.2.1 1052) (σ.2.1 1061) (σ.2.1 1081) (σ.2.2.1 1108) (σ.2.2.1 1162) (σ.2.2.1 1170) (σ.2.2.1 2036) (σ.2.2.1 2037) (σ.2.2.1 2042) (σ.2.2.1 2043) (σ.2.2.2.1 1140) (σ.2.2.2.1 1141) (σ.2.2.2.1 1150) (σ.2.2.2.1 1152) nr nw (fun k => σ.1 (6000 + 16 * k + 2)) (fun k => σ.1 (6000 + 16 * k + 3)) (fun k => σ.1 (6000 + 16 * k + 4)) (fun k => σ.1 (6000 + 16 * k + 5)) (fun k => σ.1 (6000 + 16 * k + 6)) (fun k => σ.1 (8000 + 16 * k + 0)) (fun k => σ.1 (8000 + 16 * k + 1)) (fun k => σ.1 (8000 + 16 * k + 2)) (fun k => σ.2.2.1 (4000 + 16 * k)) x1 = some (r_, w_zI1018, w_zI1062, w_zI1082, w_zL1052, w_aI1108, w_aI1162, w_aL1140, w_aL1141, w_aL1150, w_aL1152)) (hQ : Q = MQ below (va_G1 (some (.long r_)) (fun t => PIC D clsA G dsc ad (sgX1_worth σ w_zI1018 w_zI1062 w_zI1082 w_zL1052 w_aI1108 w_aI1162 w_aL1140 w_aL1141 w_aL1150 w_aL1152) t.heap) A) args s 0 0 A) (hP : PIC D clsA G dsc ad σ H) (hS : va_S A s.heap H locs) (hl : lv_has ls 6 [(0, .ref (ad 1000)), (1, .int x1)]) : W p l e rmX1_worth s m args below meth c0 H locs 0 0 Q (F0 m 0 ls []) := by
  obtain ⟨⟨hx, hb, hml, hown, hts⟩, hr, hlk⟩ := id E
  have hP := hP.to (sgX1_worth_self σ).symm
  unfold xo_X1_worth at hf
  refine lv_aload_n hx hb dX1_worth_0 rfl (lv_at hl 0 rfl) ?_
  refine lv_iload_n hx hb dX1_worth_1 rfl (lv_at hl 1 rfl) ?_
  obtain ⟨v1, u2, hf⟩ := bdP hf
  refine cx_X1_287_X1_isDoubtful E hX hD hP hS hA (kxX1_isDoubtful l D G hD sgX1_worth_rzI2027 u2) ⟨rfl, rfl⟩ ⟨Nat.le_of_ble_eq_true rfl, Nat.le_of_ble_eq_true rfl⟩ ⟨Nat.zero_le _, Nat.zero_le _⟩ hl.1 (Nat.le_of_ble_eq_true rfl) dX1_worth_2 (fun H locs hP hS => ?_)
  have J18 : xo_X1_worth_J18 (σ.1 1018) (σ.1 1062) (σ.1 1082) (σ.2.1 1052) (σ.2.2.1 1108) (σ.2.2.1 1162) (σ.2.2.2.1 1140) (σ.2.2.2.1 1141) (σ.2.2.2.1 1150) (σ.2.2.2.1 1152) = some (r_, w_zI1018, w_zI1062, w_zI1082, w_zL1052, w_aI1108, w_aI1162, w_aL1140, w_aL1141, w_aL1150, w_aL1152) → ∀ (H : Heap) (locs : List Loc), PIC D clsA G dsc ad (sgX1_worth σ (σ.1 1018) (σ.1 1062) (σ.1 1082) (σ.2.1 1052) (σ.2.2.1 1108) (σ.2.2.1 1162) (σ.2.2.2.1 1140) (σ.2.2.2.1 1141) (σ.2.2.2.1 1150) (σ.2.2.2.1 1152)) H → va_S A s.heap H locs → ∀ (ls : Array Slot), lv_has ls 6 [] → W p l e rmX1_worth s m args below meth c0 H locs 0 0 Q (F0 m 18 ls []) := by
    intro  hf H locs hP hS ls hl
    unfold xo_X1_worth_J18 at hf
    refine lv_ldc2 hx hb hown (hts _ q996) dX1_worth_18 ?_
    cases hf
    rw [hQ]; exact g_lret hx hb hr hlk hP hS dX1_worth_21
  refine lv_if_eq (tgt := 18) hx hb dX1_worth_5 (by decide) (fun c3 => ?_) (fun c3 => ?_)
  · have hf := ifT c3 hf
    exact J18  hf H locs hP hS ls (lv_sub hl [] rfl)
  · have hf := ifF c3 hf
    refine lv_aload_n hx hb dX1_worth_8 rfl (lv_at hl 0 rfl) ?_
    refine gx_X1_33_1000 E hX hD hP dX1_worth_9 ?_
    obtain ⟨v4, u5, hf⟩ := bdP hf
    refine cx_X1_231_X3_isWhole E hX hD hP hS hA (kxX3_isWhole l D G hD sgX1_worth_rzI2012 sgX1_worth_rzI2013 u5) ⟨rfl, rfl⟩ ⟨Nat.le_of_ble_eq_true rfl, Nat.le_of_ble_eq_true rfl⟩ ⟨Nat.zero_le _, Nat.zero_le _⟩ hl.1 (Nat.le_of_ble_eq_true rfl) dX1_worth_12 (fun H locs hP hS => ?_)
    refine lv_if_ne (tgt := 22) hx hb dX1_worth_15 (by decide) (fun c6 => ?_) (fun c6 => ?_)
    · have hf := ifF c6 hf
      refine lv_aload_n hx hb dX1_worth_22 rfl (lv_at hl 0 rfl) ?_
      obtain ⟨⟨z7, z8, z9, z10, a11, a12, a13, a14, a15, a16⟩, u17, hf⟩ := bdP hf
      dsimp only at hf
      refine cx_X1_276_X1_lay E hX hD hP hS hA (kxX1_lay l D G hD sgX1_worth_rzI1018 sgX1_worth_rzI1062 sgX1_worth_rzI1082 sgX1_worth_rzI2008 sgX1_worth_rzI2009 sgX1_worth_rzI2012 sgX1_worth_rzI2013 sgX1_worth_rzI2027 sgX1_worth_rzI2032 sgX1_worth_rzL1052 sgX1_worth_rzL1061 sgX1_worth_rzL1081 sgX1_worth_raI1108 sgX1_worth_raI1162 sgX1_worth_raI1170 sgX1_worth_raI2036 sgX1_worth_raI2037 sgX1_worth_raI2042 sgX1_worth_raI2043 sgX1_worth_raL1140 sgX1_worth_raL1141 sgX1_worth_raL1150 sgX1_worth_raL1152 rfl rfl sgX1_worth_rpR2 sgX1_worth_rpR3 sgX1_worth_rpR4 sgX1_worth_rpR5 sgX1_worth_rpR6 sgX1_worth_rpW0 sgX1_worth_rpW1 sgX1_worth_rpW2 sgX1_worth_rgG0 u17) ⟨rfl, rfl⟩ ⟨Nat.le_of_ble_eq_true rfl, Nat.le_of_ble_eq_true rfl⟩ ⟨Nat.zero_le _, Nat.zero_le _⟩ hl.1 (Nat.le_of_ble_eq_true rfl) dX1_worth_23 (fun H locs hP hS => ?_)
      rw [sgX1_worth_zI1018, sgX1_worth_zI1062, sgX1_worth_zI1082, sgX1_worth_zL1052, sgX1_worth_aI1108, sgX1_worth_aI1162, sgX1_worth_aL1140, sgX1_worth_aL1141, sgX1_worth_aL1150, sgX1_worth_aL1152] at hP
      refine lv_aload_n hx hb dX1_worth_26 rfl (lv_at hl 0 rfl) ?_
      refine gx_X1_53_1000 E hX hD hP dX1_worth_27 ?_
      refine lv_aload_n hx hb dX1_worth_30 rfl (lv_at hl 0 rfl) ?_
      refine gx_X1_33_1000 E hX hD hP dX1_worth_31 ?_
      refine gx_X1_253_2000 (v := (σ.1 2012)) E hX hD hP sgX1_worth_rzI2012 dX1_worth_34 ?_
      refine lv_iconst hx hb dX1_worth_37 ic_0 ?_
      obtain ⟨v18, u19, hf⟩ := bdP hf
      refine cx_X1_346_X5_arriving_TB E hX hD hP hS hA (kxX5_arriving_TB l D G hD sgX1_worth_rzI1062 sgX1_worth_rzI2013 sgX1_worth_rzI2027 sgX1_worth_rzL1061 sgX1_worth_raI1170 sgX1_worth_raI2043 sgX1_worth_raL1141 sgX1_worth_raL1150 u19) ⟨rfl, rfl⟩ ⟨Nat.le_of_ble_eq_true rfl, Nat.le_of_ble_eq_true rfl⟩ ⟨Nat.zero_le _, Nat.zero_le _⟩ hl.1 (Nat.le_of_ble_eq_true rfl) dX1_worth_38 (fun H locs hP hS => ?_)
      refine lv_lstore_n (lv' := [(2, .long v18), (0, .ref (ad 1000)), (1, .int x1)]) hx hb dX1_worth_41 rfl hl (by decide) rfl (fun ls hl => ?_)
      refine lv_aload_n hx hb dX1_worth_42 rfl (lv_at hl 1 rfl) ?_
      refine lv_iconst hx hb dX1_worth_43 ic_1 ?_
      refine lv_iload_n hx hb dX1_worth_44 rfl (lv_at hl 2 rfl) ?_
      refine lv_ishl hx hb dX1_worth_45 ?_
      obtain ⟨v20, u21, hf⟩ := bdP hf
      refine cx_X1_417_X1_ahead E hX hD hP hS hA (kxX1_ahead l D G hD sgX1_worth_rzI1062 sgX1_worth_rzI2012 sgX1_worth_rzI2013 sgX1_worth_rzI2027 sgX1_worth_rzL1061 sgX1_worth_raI1170 sgX1_worth_raI2043 sgX1_worth_raL1141 sgX1_worth_raL1150 u21) ⟨rfl, rfl⟩ ⟨Nat.le_of_ble_eq_true rfl, Nat.le_of_ble_eq_true rfl⟩ ⟨Nat.zero_le _, Nat.zero_le _⟩ hl.1 (Nat.le_of_ble_eq_true rfl) dX1_worth_46 (fun H locs hP hS => ?_)
      refine lv_lstore (lv' := [(4, .long v20), (2, .long v18), (0, .ref (ad 1000)), (1, .int x1)]) hx hb dX1_worth_49 hl (by decide) rfl (fun ls hl => ?_)
      refine lv_lload_n hx hb dX1_worth_51 rfl (lv_at hl 1 rfl) ?_
      refine lv_aload_n hx hb dX1_worth_52 rfl (lv_at hl 2 rfl) ?_
      refine gx_X1_53_1000 E hX hD hP dX1_worth_53 ?_
      refine gx_X1_421_1060 (v := (σ.2.1 1061)) E hX hD hP sgX1_worth_rzL1061 dX1_worth_56 ?_
      refine W.lcmp hx hb dX1_worth_59 ?_
      have J76 : xo_X1_worth_J76 z7 z8 z9 z10 a11 a12 a13 a14 a15 a16 = some (r_, w_zI1018, w_zI1062, w_zI1082, w_zL1052, w_aI1108, w_aI1162, w_aL1140, w_aL1141, w_aL1150, w_aL1152) → ∀ (H : Heap) (locs : List Loc), PIC D clsA G dsc ad (sgX1_worth σ z7 z8 z9 z10 a11 a12 a13 a14 a15 a16) H → va_S A s.heap H locs → ∀ (ls : Array Slot), lv_has ls 6 [] → W p l e rmX1_worth s m args below meth c0 H locs 0 0 Q (F0 m 76 ls []) := by
        intro  hf H locs hP hS ls hl
        unfold xo_X1_worth_J76 at hf
        refine lv_ldc2 hx hb hown (hts _ q1335) dX1_worth_76 ?_
        refine lv_goto (tgt := 86) hx hb dX1_worth_79 (by decide) ?_
        cases hf
        rw [hQ]; exact g_lret hx hb hr hlk hP hS dX1_worth_86
      refine lv_if_eq (tgt := 76) hx hb dX1_worth_60 (by decide) (fun c22 => ?_) (fun c22 => ?_)
      · have hf := ifT ((lgc_eq _ _).mp c22) hf
        exact J76  hf H locs hP hS ls (lv_sub hl [] rfl)
      · have hf := ifF (mt (lgc_eq _ _).mpr c22) hf
        refine lv_lload hx hb dX1_worth_63 (lv_at hl 0 rfl) ?_
        refine lv_aload_n hx hb dX1_worth_65 rfl (lv_at hl 2 rfl) ?_
        refine gx_X1_53_1000 E hX hD hP dX1_worth_66 ?_
        refine gx_X1_421_1060 (v := (σ.2.1 1061)) E hX hD hP sgX1_worth_rzL1061 dX1_worth_69 ?_
        refine W.lcmp hx hb dX1_worth_72 ?_
        refine lv_if_ne (tgt := 82) hx hb dX1_worth_73 (by decide) (fun c23 => ?_) (fun c23 => ?_)
        · have hf := ifF (mt (lgc_eq _ _).mpr c23) hf
          refine lv_lload_n hx hb dX1_worth_82 rfl (lv_at hl 1 rfl) ?_
          refine lv_lload hx hb dX1_worth_83 (lv_at hl 0 rfl) ?_
          refine lv_lsub hx hb dX1_worth_85 ?_
          cases hf
          rw [hQ]; exact g_lret hx hb hr hlk hP hS dX1_worth_86
        · have hf := ifT ((lgc_eq _ _).mp c23) hf
          exact J76  hf H locs hP hS ls (lv_sub hl [] rfl)
    · have hf := ifT c6 hf
      exact J18  hf H locs hP hS ls (lv_sub hl [] rfl)
theorem kxX1_worth (l : Launch) (D : va_G) (G : Nat → ClassId) {dsc : Nat → Option Dsc} {ad : Nat → Nat} {σ : Sto} {nr nw nu : Nat} (hD : XD dsc nr nw nu) {x1 : Int32} {r_ : Int64} {w_zI1018 : Int32} {w_zI1062 : Int32} {w_zI1082 : Int32} {w_zL1052 : Int64} {w_aI1108 : Nat → Int32} {w_aI1162 : Nat → Int32} {w_aL1140 : Nat → Int64} {w_aL1141 : Nat → Int64} {w_aL1150 : Nat → Int64} {w_aL1152 : Nat → Int64} {z_X_isLaid : Int32} (e_zI1018 : σ.1 1018 = z_X_isLaid) {z_TB_by : Int32} (e_zI1062 : σ.1 1062 = z_TB_by) {z_TS_by : Int32} (e_zI1082 : σ.1 1082 = z_TS_by) {z_L_places : Int32} (e_zI2008 : σ.1 2008 = z_L_places) {z_L_causes : Int32} (e_zI2009 : σ.1 2009 = z_L_causes) {z_L_from : Int32} (e_zI2012 : σ.1 2012 = z_L_from) {z_L_to : Int32} (e_zI2013 : σ.1 2013 = z_L_to) {z_Ld_size : Int32} (e_zI2027 : σ.1 2027 = z_Ld_size) {z_Lw_size : Int32} (e_zI2032 : σ.1 2032 = z_Lw_size) {z_W_all : Int64} (e_zL1052 : σ.2.1 1052 = z_W_all) {z_TB_none : Int64} (e_zL1061 : σ.2.1 1061 = z_TB_none) {z_TS_none : Int64} (e_zL1081 : σ.2.1 1081 = z_TS_none) {a_X_knowing : Nat → Int32} (e_aI1108 : σ.2.2.1 1108 = a_X_knowing) {a_p3_far : Nat → Int32} (e_aI1162 : σ.2.2.1 1162 = a_p3_far) {a_UNIT : Nat → Int32} (e_aI1170 : σ.2.2.1 1170 = a_UNIT) {a_Ld_data : Nat → Int32} (e_aI2036 : σ.2.2.1 2036 = a_Ld_data) {a_Lw_data : Nat → Int32} (e_aI2037 : σ.2.2.1 2037 = a_Lw_data) {a_L_comes : Nat → Int32} (e_aI2042 : σ.2.2.1 2042 = a_L_comes) {a_L_seen : Nat → Int32} (e_aI2043 : σ.2.2.1 2043 = a_L_seen) {a_W_world : Nat → Int64} (e_aL1140 : σ.2.2.2.1 1140 = a_W_world) {a_W_likely : Nat → Int64} (e_aL1141 : σ.2.2.2.1 1141 = a_W_likely) {a_TB_value : Nat → Int64} (e_aL1150 : σ.2.2.2.1 1150 = a_TB_value) {a_TS_value : Nat → Int64} (e_aL1152 : σ.2.2.2.1 1152 = a_TS_value) {n_r : Nat} (e_nN0 : nr = n_r) {n_w : Nat} (e_nN1 : nw = n_w) {p_road_hours : Nat → Int32} (e_pR2 : (fun k => σ.1 (6000 + 16 * k + 2)) = p_road_hours) {p_road_doubt : Nat → Int32} (e_pR3 : (fun k => σ.1 (6000 + 16 * k + 3)) = p_road_doubt) {p_road_cause : Nat → Int32} (e_pR4 : (fun k => σ.1 (6000 + 16 * k + 4)) = p_road_cause) {p_road_wait : Nat → Int32} (e_pR5 : (fun k => σ.1 (6000 + 16 * k + 5)) = p_road_wait) {p_road_number : Nat → Int32} (e_pR6 : (fun k => σ.1 (6000 + 16 * k + 6)) = p_road_number) {p_word_place : Nat → Int32} (e_pW0 : (fun k => σ.1 (8000 + 16 * k + 0)) = p_word_place) {p_word_road : Nat → Int32} (e_pW1 : (fun k => σ.1 (8000 + 16 * k + 1)) = p_word_road) {p_word_hours : Nat → Int32} (e_pW2 : (fun k => σ.1 (8000 + 16 * k + 2)) = p_word_hours) {g_grid : Nat → Nat → Int32} (e_gG0 : (fun k => σ.2.2.1 (4000 + 16 * k)) = g_grid) (hf : xo_X1_worth z_X_isLaid z_TB_by z_TS_by z_L_places z_L_causes z_L_from z_L_to z_Ld_size z_Lw_size z_W_all z_TB_none z_TS_none a_X_knowing a_p3_far a_UNIT a_Ld_data a_Lw_data a_L_comes a_L_seen a_W_world a_W_likely a_TB_value a_TS_value n_r n_w p_road_hours p_road_doubt p_road_cause p_road_wait p_road_number p_word_place p_word_road p_word_hours g_grid x1 = some (r_, w_zI1018, w_zI1062, w_zI1082, w_zL1052, w_aI1108, w_aI1162, w_aL1140, w_aL1141, w_aL1150, w_aL1152)) : CtG l D G dsc ad yX1_worth (ws_ yX1_worth cX1_worth 6 (Option.some Jvm.ClassFile.FieldType.long)) rmX1_worth [.ref (ad 1000), .int x1] σ (some (.long r_)) (aL (aL (aL (aL (aI (aI (zL (zI (zI (zI σ 1018 w_zI1018) 1062 w_zI1062) 1082 w_zI1082) 1052 w_zL1052) 1108 w_aI1108) 1162 w_aI1162) 1140 w_aL1140) 1141 w_aL1141) 1150 w_aL1150) 1152 w_aL1152) := by
  subst e_zI1018
  subst e_zI1062
  subst e_zI1082
  subst e_zI2008
  subst e_zI2009
  subst e_zI2012
  subst e_zI2013
  subst e_zI2027
  subst e_zI2032
  subst e_zL1052
  subst e_zL1061
  subst e_zL1081
  subst e_aI1108
  subst e_aI1162
  subst e_aI1170
  subst e_aI2036
  subst e_aI2037
  subst e_aI2042
  subst e_aI2043
  subst e_aL1140
  subst e_aL1141
  subst e_aL1150
  subst e_aL1152
  subst e_nN0
  subst e_nN1
  subst e_pR2
  subst e_pR3
  subst e_pR4
  subst e_pR5
  subst e_pR6
  subst e_pW0
  subst e_pW1
  subst e_pW2
  subst e_gG0
  exact p_ctG (by decide +kernel) (Nat.le_of_ble_eq_true rfl) (fun p e s m below meth c0 ls A E hP hX hA hS hl => wkX1_worth E hX hD hA hf rfl hP hS hl)
end XWALK
