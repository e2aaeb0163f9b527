section MWALK
variable {p : Program} {l : Launch} {e : Env} {R : Room} {s : State} {m : MethodId} {args : Array Value} {below : List Frame} {meth : Method} {c0 : Code} {H : Heap} {locs : List Loc} {cells slots : Nat} {Q : State → Prop}
variable {cc : ByteArray} {nL : Nat} {ret : Option FieldType} {pc : Nat} {ls : Array Slot} {rest : List Value} {D : va_G} {A : Nat → Prop} {G : Nat → ClassId} {ad : Nat → Nat} {σ : Sto}
/-! land(I)I -/
def sgM_land (σ : Sto) (w0 : Int32) (w1 : Int32) (w2 : Int32) (w3 : Int32) (w4 : Int32) (w5 : Int32) (w6 : Int32) (w7 : Int32) (w8 : Int32) (w9 : Int32) (w10 : Int32) (w11 : Int32) (w12 : Int32) (w13 : Int32) (w14 : Int32) (w15 : Nat → Int32) (w16 : Nat → Int32) (w17 : Nat → Int32) (w18 : Nat → Int32) (w19 : Nat → Int32) (w20 : Nat → Int32) (w21 : Nat → Int32) (w22 : Nat → Int32) (w23 : Nat → Int32) (w24 : Nat → Int32) (w25 : Nat → Int32) (w26 : Nat → Int32) (w27 : Nat → Int32) (w28 : Nat → Int32) (w29 : Nat → Int64) (w30 : Nat → Int64) (w31 : Nat → Int64) : Sto := aL (aL (aL (aI (aI (aI (aI (aI (aI (aI (aI (aI (aI (aI (aI (aI (aI (zI (zI (zI (zI (zI (zI (zI (zI (zI (zI (zI (zI (zI (zI (zI σ 501 w0) 502 w1) 504 w2) 505 w3) 506 w4) 507 w5) 508 w6) 509 w7) 510 w8) 519 w9) 522 w10) 523 w11) 541 w12) 543 w13) 554 w14) 611 w15) 612 w16) 613 w17) 614 w18) 615 w19) 616 w20) 617 w21) 618 w22) 620 w23) 621 w24) 624 w25) 625 w26) 632 w27) 640 w28) 626 w29) 627 w30) 628 w31
theorem sgM_land_self (σ : Sto) : sgM_land σ (σ.1 501) (σ.1 502) (σ.1 504) (σ.1 505) (σ.1 506) (σ.1 507) (σ.1 508) (σ.1 509) (σ.1 510) (σ.1 519) (σ.1 522) (σ.1 523) (σ.1 541) (σ.1 543) (σ.1 554) (σ.2.2.1 611) (σ.2.2.1 612) (σ.2.2.1 613) (σ.2.2.1 614) (σ.2.2.1 615) (σ.2.2.1 616) (σ.2.2.1 617) (σ.2.2.1 618) (σ.2.2.1 620) (σ.2.2.1 621) (σ.2.2.1 624) (σ.2.2.1 625) (σ.2.2.1 632) (σ.2.2.1 640) (σ.2.2.2.1 626) (σ.2.2.2.1 627) (σ.2.2.2.1 628) = σ := by
  unfold sgM_land
  simp only [zI_self, zL_self, aI_self, aL_self]
theorem sgM_land_zI501 {σ : Sto} {w0 : Int32} {w1 : Int32} {w2 : Int32} {w3 : Int32} {w4 : Int32} {w5 : Int32} {w6 : Int32} {w7 : Int32} {w8 : Int32} {w9 : Int32} {w10 : Int32} {w11 : Int32} {w12 : Int32} {w13 : Int32} {w14 : Int32} {w15 : Nat → Int32} {w16 : Nat → Int32} {w17 : Nat → Int32} {w18 : Nat → Int32} {w19 : Nat → Int32} {w20 : Nat → Int32} {w21 : Nat → Int32} {w22 : Nat → Int32} {w23 : Nat → Int32} {w24 : Nat → Int32} {w25 : Nat → Int32} {w26 : Nat → Int32} {w27 : Nat → Int32} {w28 : Nat → Int32} {w29 : Nat → Int64} {w30 : Nat → Int64} {w31 : Nat → Int64} {g : Int32} : zI (sgM_land σ w0 w1 w2 w3 w4 w5 w6 w7 w8 w9 w10 w11 w12 w13 w14 w15 w16 w17 w18 w19 w20 w21 w22 w23 w24 w25 w26 w27 w28 w29 w30 w31) 501 g = sgM_land σ g w1 w2 w3 w4 w5 w6 w7 w8 w9 w10 w11 w12 w13 w14 w15 w16 w17 w18 w19 w20 w21 w22 w23 w24 w25 w26 w27 w28 w29 w30 w31 := (cm_zI_aL _ _ _ _ _).trans (congrArg (fun z => aL z 628 w31) ((cm_zI_aL _ _ _ _ _).trans (congrArg (fun z => aL z 627 w30) ((cm_zI_aL _ _ _ _ _).trans (congrArg (fun z => aL z 626 w29) ((cm_zI_aI _ _ _ _ _).trans (congrArg (fun z => aI z 640 w28) ((cm_zI_aI _ _ _ _ _).trans (congrArg (fun z => aI z 632 w27) ((cm_zI_aI _ _ _ _ _).trans (congrArg (fun z => aI z 625 w26) ((cm_zI_aI _ _ _ _ _).trans (congrArg (fun z => aI z 624 w25) ((cm_zI_aI _ _ _ _ _).trans (congrArg (fun z => aI z 621 w24) ((cm_zI_aI _ _ _ _ _).trans (congrArg (fun z => aI z 620 w23) ((cm_zI_aI _ _ _ _ _).trans (congrArg (fun z => aI z 618 w22) ((cm_zI_aI _ _ _ _ _).trans (congrArg (fun z => aI z 617 w21) ((cm_zI_aI _ _ _ _ _).trans (congrArg (fun z => aI z 616 w20) ((cm_zI_aI _ _ _ _ _).trans (congrArg (fun z => aI z 615 w19) ((cm_zI_aI _ _ _ _ _).trans (congrArg (fun z => aI z 614 w18) ((cm_zI_aI _ _ _ _ _).trans (congrArg (fun z => aI z 613 w17) ((cm_zI_aI _ _ _ _ _).trans (congrArg (fun z => aI z 612 w16) ((cm_zI_aI _ _ _ _ _).trans (congrArg (fun z => aI z 611 w15) ((zI_comm _ (by decide) _ _).trans (congrArg (fun z => zI z 554 w14) ((zI_comm _ (by decide) _ _).trans (congrArg (fun z => zI z 543 w13) ((zI_comm _ (by decide) _ _).trans (congrArg (fun z => zI z 541 w12) ((zI_comm _ (by decide) _ _).trans (congrArg (fun z => zI z 523 w11) ((zI_comm _ (by decide) _ _).trans (congrArg (fun z => zI z 522 w10) ((zI_comm _ (by decide) _ _).trans (congrArg (fun z => zI z 519 w9) ((zI_comm _ (by decide) _ _).trans (congrArg (fun z => zI z 510 w8) ((zI_comm _ (by decide) _ _).trans (congrArg (fun z => zI z 509 w7) ((zI_comm _ (by decide) _ _).trans (congrArg (fun z => zI z 508 w6) ((zI_comm _ (by decide) _ _).trans (congrArg (fun z => zI z 507 w5) ((zI_comm _ (by decide) _ _).trans (congrArg (fun z => zI z 506 w4) ((zI_comm _ (by decide) _ _).trans (congrArg (fun z => zI z 505 w3) ((zI_comm _ (by decide) _ _).trans (congrArg (fun z => zI z 504 w2) ((zI_comm _ (by decide) _ _).trans (congrArg (fun z => zI z 502 w1) (zI_zI _ 501 _ _))))))))))))))))))))))))))))))))))))))))))))))))))))))))))))))
theorem sgM_land_zI502 {σ : Sto} {w0 : Int32} {w1 : Int32} {w2 : Int32} {w3 : Int32} {w4 : Int32} {w5 : Int32} {w6 : Int32} {w7 : Int32} {w8 : Int32} {w9 : Int32} {w10 : Int32} {w11 : Int32} {w12 : Int32} {w13 : Int32} {w14 : Int32} {w15 : Nat → Int32} {w16 : Nat → Int32} {w17 : Nat → Int32} {w18 : Nat → Int32} {w19 : Nat → Int32} {w20 : Nat → Int32} {w21 : Nat → Int32} {w22 : Nat → Int32} {w23 : Nat → Int32} {w24 : Nat → Int32} {w25 : Nat → Int32} {w26 : Nat → Int32} {w27 : Nat → Int32} {w28 : Nat → Int32} {w29 : Nat → Int64} {w30 : Nat → Int64} {w31 : Nat → Int64} {g : Int32} : zI (sgM_land σ w0 w1 w2 w3 w4 w5 w6 w7 w8 w9 w10 w11 w12 w13 w14 w15 w16 w17 w18 w19 w20 w21 w22 w23 w24 w25 w26 w27 w28 w29 w30 w31) 502 g = sgM_land σ w0 g w2 w3 w4 w5 w6 w7 w8 w9 w10 w11 w12 w13 w14 w15 w16 w17 w18 w19 w20 w21 w22 w23 w24 w25 w26 w27 w28 w29 w30 w31 := (cm_zI_aL _ _ _ _ _).trans (congrArg (fun z => aL z 628 w31) ((cm_zI_aL _ _ _ _ _).trans (congrArg (fun z => aL z 627 w30) ((cm_zI_aL _ _ _ _ _).trans (congrArg (fun z => aL z 626 w29) ((cm_zI_aI _ _ _ _ _).trans (congrArg (fun z => aI z 640 w28) ((cm_zI_aI _ _ _ _ _).trans (congrArg (fun z => aI z 632 w27) ((cm_zI_aI _ _ _ _ _).trans (congrArg (fun z => aI z 625 w26) ((cm_zI_aI _ _ _ _ _).trans (congrArg (fun z => aI z 624 w25) ((cm_zI_aI _ _ _ _ _).trans (congrArg (fun z => aI z 621 w24) ((cm_zI_aI _ _ _ _ _).trans (congrArg (fun z => aI z 620 w23) ((cm_zI_aI _ _ _ _ _).trans (congrArg (fun z => aI z 618 w22) ((cm_zI_aI _ _ _ _ _).trans (congrArg (fun z => aI z 617 w21) ((cm_zI_aI _ _ _ _ _).trans (congrArg (fun z => aI z 616 w20) ((cm_zI_aI _ _ _ _ _).trans (congrArg (fun z => aI z 615 w19) ((cm_zI_aI _ _ _ _ _).trans (congrArg (fun z => aI z 614 w18) ((cm_zI_aI _ _ _ _ _).trans (congrArg (fun z => aI z 613 w17) ((cm_zI_aI _ _ _ _ _).trans (congrArg (fun z => aI z 612 w16) ((cm_zI_aI _ _ _ _ _).trans (congrArg (fun z => aI z 611 w15) ((zI_comm _ (by decide) _ _).trans (congrArg (fun z => zI z 554 w14) ((zI_comm _ (by decide) _ _).trans (congrArg (fun z => zI z 543 w13) ((zI_comm _ (by decide) _ _).trans (congrArg (fun z => zI z 541 w12) ((zI_comm _ (by decide) _ _).trans (congrArg (fun z => zI z 523 w11) ((zI_comm _ (by decide) _ _).trans (congrArg (fun z => zI z 522 w10) ((zI_comm _ (by decide) _ _).trans (congrArg (fun z => zI z 519 w9) ((zI_comm _ (by decide) _ _).trans (congrArg (fun z => zI z 510 w8) ((zI_comm _ (by decide) _ _).trans (congrArg (fun z => zI z 509 w7) ((zI_comm _ (by decide) _ _).trans (congrArg (fun z => zI z 508 w6) ((zI_comm _ (by decide) _ _).trans (congrArg (fun z => zI z 507 w5) ((zI_comm _ (by decide) _ _).trans (congrArg (fun z => zI z 506 w4) ((zI_comm _ (by decide) _ _).trans (congrArg (fun z => zI z 505 w3) ((zI_comm _ (by decide) _ _).trans (congrArg (fun z => zI z 504 w2) (zI_zI _ 502 _ _))))))))))))))))))))))))))))))))))))))))))))))))))))))))))))
theorem sgM_land_zI504 {σ : Sto} {w0 : Int32} {w1 : Int32} {w2 : Int32} {w3 : Int32} {w4 : Int32} {w5 : Int32} {w6 : Int32} {w7 : Int32} {w8 : Int32} {w9 : Int32} {w10 : Int32} {w11 : Int32} {w12 : Int32} {w13 : Int32} {w14 : Int32} {w15 : Nat → Int32} {w16 : Nat → Int32} {w17 : Nat → Int32} {w18 : Nat → Int32} {w19 : Nat → Int32} {w20 : Nat → Int32} {w21 : Nat → Int32} {w22 : Nat → Int32} {w23 : Nat → Int32} {w24 : Nat → Int32} {w25 : Nat → Int32} {w26 : Nat → Int32} {w27 : Nat → Int32} {w28 : Nat → Int32} {w29 : Nat → Int64} {w30 : Nat → Int64} {w31 : Nat → Int64} {g : Int32} : zI (sgM_land σ w0 w1 w2 w3 w4 w5 w6 w7 w8 w9 w10 w11 w12 w13 w14 w15 w16 w17 w18 w19 w20 w21 w22 w23 w24 w25 w26 w27 w28 w29 w30 w31) 504 g = sgM_land σ w0 w1 g w3 w4 w5 w6 w7 w8 w9 w10 w11 w12 w13 w14 w15 w16 w17 w18 w19 w20 w21 w22 w23 w24 w25 w26 w27 w28 w29 w30 w31 := (cm_zI_aL _ _ _ _ _).trans (congrArg (fun z => aL z 628 w31) ((cm_zI_aL _ _ _ _ _).trans (congrArg (fun z => aL z 627 w30) ((cm_zI_aL _ _ _ _ _).trans (congrArg (fun z => aL z 626 w29) ((cm_zI_aI _ _ _ _ _).trans (congrArg (fun z => aI z 640 w28) ((cm_zI_aI _ _ _ _ _).trans (congrArg (fun z => aI z 632 w27) ((cm_zI_aI _ _ _ _ _).trans (congrArg (fun z => aI z 625 w26) ((cm_zI_aI _ _ _ _ _).trans (congrArg (fun z => aI z 624 w25) ((cm_zI_aI _ _ _ _ _).trans (congrArg (fun z => aI z 621 w24) ((cm_zI_aI _ _ _ _ _).trans (congrArg (fun z => aI z 620 w23) ((cm_zI_aI _ _ _ _ _).trans (congrArg (fun z => aI z 618 w22) ((cm_zI_aI _ _ _ _ _).trans (congrArg (fun z => aI z 617 w21) ((cm_zI_aI _ _ _ _ _).trans (congrArg (fun z => aI z 616 w20) ((cm_zI_aI _ _ _ _ _).trans (congrArg (fun z => aI z 615 w19) ((cm_zI_aI _ _ _ _ _).trans (congrArg (fun z => aI z 614 w18) ((cm_zI_aI _ _ _ _ _).trans (congrArg (fun z => aI z 613 w17) ((cm_zI_aI _ _ _ _ _).trans (congrArg (fun z => aI z 612 w16) ((cm_zI_aI _ _ _ _ _).trans (congrArg (fun z => aI z 611 w15) ((zI_comm _ (by decide) _ _).trans (congrArg (fun z => zI z 554 w14) ((zI_comm _ (by decide) _ _).trans (congrArg (fun z => zI z 543 w13) ((zI_comm _ (by decide) _ _).trans (congrArg (fun z => zI z 541 w12) ((zI_comm _ (by decide) _ _).trans (congrArg (fun z => zI z 523 w11) ((zI_comm _ (by decide) _ _).trans (congrArg (fun z => zI z 522 w10) ((zI_comm _ (by decide) _ _).trans (congrArg (fun z => zI z 519 w9) ((zI_comm _ (by decide) _ _).trans (congrArg (fun z => zI z 510 w8) ((zI_comm _ (by decide) _ _).trans (congrArg (fun z => zI z 509 w7) ((zI_comm _ (by decide) _ _).trans (congrArg (fun z => zI z 508 w6) ((zI_comm _ (by decide) _ _).trans (congrArg (fun z => zI z 507 w5) ((zI_comm _ (by decide) _ _).trans (congrArg (fun z => zI z 506 w4) ((zI_comm _ (by decide) _ _).trans (congrArg (fun z => zI z 505 w3) (zI_zI _ 504 _ _))))))))))))))))))))))))))))))))))))))))))))))))))))))))))
theorem sgM_land_zI505 {σ : Sto} {w0 : Int32} {w1 : Int32} {w2 : Int32} {w3 : Int32} {w4 : Int32} {w5 : Int32} {w6 : Int32} {w7 : Int32} {w8 : Int32} {w9 : Int32} {w10 : Int32} {w11 : Int32} {w12 : Int32} {w13 : Int32} {w14 : Int32} {w15 : Nat → Int32} {w16 : Nat → Int32} {w17 : Nat → Int32} {w18 : Nat → Int32} {w19 : Nat → Int32} {w20 : Nat → Int32} {w21 : Nat → Int32} {w22 : Nat → Int32} {w23 : Nat → Int32} {w24 : Nat → Int32} {w25 : Nat → Int32} {w26 : Nat → Int32} {w27 : Nat → Int32} {w28 : Nat → Int32} {w29 : Nat → Int64} {w30 : Nat → Int64} {w31 : Nat → Int64} {g : Int32} : zI (sgM_land σ w0 w1 w2 w3 w4 w5 w6 w7 w8 w9 w10 w11 w12 w13 w14 w15 w16 w17 w18 w19 w20 w21 w22 w23 w24 w25 w26 w27 w28 w29 w30 w31) 505 g = sgM_land σ w0 w1 w2 g w4 w5 w6 w7 w8 w9 w10 w11 w12 w13 w14 w15 w16 w17 w18 w19 w20 w21 w22 w23 w24 w25 w26 w27 w28 w29 w30 w31 := (cm_zI_aL _ _ _ _ _).trans (congrArg (fun z => aL z 628 w31) ((cm_zI_aL _ _ _ _ _).trans (congrArg (fun z => aL z 627 w30) ((cm_zI_aL _ _ _ _ _).trans (congrArg (fun z => aL z 626 w29) ((cm_zI_aI _ _ _ _ _).trans (congrArg (fun z => aI z 640 w28) ((cm_zI_aI _ _ _ _ _).trans (congrArg (fun z => aI z 632 w27) ((cm_zI_aI _ _ _ _ _).trans (congrArg (fun z => aI z 625 w26) ((cm_zI_aI _ _ _ _ _).trans (congrArg (fun z => aI z 624 w25) ((cm_zI_aI _ _ _ _ _).trans (congrArg (fun z => aI z 621 w24) ((cm_zI_aI _ _ _ _ _).trans (congrArg (fun z => aI z 620 w23) ((cm_zI_aI _ _ _ _ _).trans (congrArg (fun z => aI z 618 w22) ((cm_zI_aI _ _ _ _ _).trans (congrArg (fun z => aI z 617 w21) ((cm_zI_aI _ _ _ _ _).trans (congrArg (fun z => aI z 616 w20) ((cm_zI_aI _ _ _ _ _).trans (congrArg (fun z => aI z 615 w19) ((cm_zI_aI _ _ _ _ _).trans (congrArg (fun z => aI z 614 w18) ((cm_zI_aI _ _ _ _ _).trans (congrArg (fun z => aI z 613 w17) ((cm_zI_aI _ _ _ _ _).trans (congrArg (fun z => aI z 612 w16) ((cm_zI_aI _ _ _ _ _).trans (congrArg (fun z => aI z 611 w15) ((zI_comm _ (by decide) _ _).trans (congrArg (fun z => zI z 554 w14) ((zI_comm _ (by decide) _ _).trans (congrArg (fun z => zI z 543 w13) ((zI_comm _ (by decide) _ _).trans (congrArg (fun z => zI z 541 w12) ((zI_comm _ (by decide) _ _).trans (congrArg (fun z => zI z 523 w11) ((zI_comm _ (by decide) _ _).trans (congrArg (fun z => zI z 522 w10) ((zI_comm _ (by decide) _ _).trans (congrArg (fun z => zI z 519 w9) ((zI_comm _ (by decide) _ _).trans (congrArg (fun z => zI z 510 w8) ((zI_comm _ (by decide) _ _).trans (congrArg (fun z => zI z 509 w7) ((zI_comm _ (by decide) _ _).trans (congrArg (fun z => zI z 508 w6) ((zI_comm _ (by decide) _ _).trans (congrArg (fun z => zI z 507 w5) ((zI_comm _ (by decide) _ _).trans (congrArg (fun z => zI z 506 w4) (zI_zI _ 505 _ _))))))))))))))))))))))))))))))))))))))))))))))))))))))))
theorem sgM_land_zI506 {σ : Sto} {w0 : Int32} {w1 : Int32} {w2 : Int32} {w3 : Int32} {w4 : Int32} {w5 : Int32} {w6 : Int32} {w7 : Int32} {w8 : Int32} {w9 : Int32} {w10 : Int32} {w11 : Int32} {w12 : Int32} {w13 : Int32} {w14 : Int32} {w15 : Nat → Int32} {w16 : Nat → Int32} {w17 : Nat → Int32} {w18 : Nat → Int32} {w19 : Nat → Int32} {w20 : Nat → Int32} {w21 : Nat → Int32} {w22 : Nat → Int32} {w23 : Nat → Int32} {w24 : Nat → Int32} {w25 : Nat → Int32} {w26 : Nat → Int32} {w27 : Nat → Int32} {w28 : Nat → Int32} {w29 : Nat → Int64} {w30 : Nat → Int64} {w31 : Nat → Int64} {g : Int32} : zI (sgM_land σ w0 w1 w2 w3 w4 w5 w6 w7 w8 w9 w10 w11 w12 w13 w14 w15 w16 w17 w18 w19 w20 w21 w22 w23 w24 w25 w26 w27 w28 w29 w30 w31) 506 g = sgM_land σ w0 w1 w2 w3 g w5 w6 w7 w8 w9 w10 w11 w12 w13 w14 w15 w16 w17 w18 w19 w20 w21 w22 w23 w24 w25 w26 w27 w28 w29 w30 w31 := (cm_zI_aL _ _ _ _ _).trans (congrArg (fun z => aL z 628 w31) ((cm_zI_aL _ _ _ _ _).trans (congrArg (fun z => aL z 627 w30) ((cm_zI_aL _ _ _ _ _).trans (congrArg (fun z => aL z 626 w29) ((cm_zI_aI _ _ _ _ _).trans (congrArg (fun z => aI z 640 w28) ((cm_zI_aI _ _ _ _ _).trans (congrArg (fun z => aI z 632 w27) ((cm_zI_aI _ _ _ _ _).trans (congrArg (fun z => aI z 625 w26) ((cm_zI_aI _ _ _ _ _).trans (congrArg (fun z => aI z 624 w25) ((cm_zI_aI _ _ _ _ _).trans (congrArg (fun z => aI z 621 w24) ((cm_zI_aI _ _ _ _ _).trans (congrArg (fun z => aI z 620 w23) ((cm_zI_aI _ _ _ _ _).trans (congrArg (fun z => aI z 618 w22) ((cm_zI_aI _ _ _ _ _).trans (congrArg (fun z => aI z 617 w21) ((cm_zI_aI _ _ _ _ _).trans (congrArg (fun z => aI z 616 w20) ((cm_zI_aI _ _ _ _ _).trans (congrArg (fun z => aI z 615 w19) ((cm_zI_aI _ _ _ _ _).trans (congrArg (fun z => aI z 614 w18) ((cm_zI_aI _ _ _ _ _).trans (congrArg (fun z => aI z 613 w17) ((cm_zI_aI _ _ _ _ _).trans (congrArg (fun z => aI z 612 w16) ((cm_zI_aI _ _ _ _ _).trans (congrArg (fun z => aI z 611 w15) ((zI_comm _ (by decide) _ _).trans (congrArg (fun z => zI z 554 w14) ((zI_comm _ (by decide) _ _).trans (congrArg (fun z => zI z 543 w13) ((zI_comm _ (by decide) _ _).trans (congrArg (fun z => zI z 541 w12) ((zI_comm _ (by decide) _ _).trans (congrArg (fun z => zI z 523 w11) ((zI_comm _ (by decide) _ _).trans (congrArg (fun z => zI z 522 w10) ((zI_comm _ (by decide) _ _).trans (congrArg (fun z => zI z 519 w9) ((zI_comm _ (by decide) _ _).trans (congrArg (fun z => zI z 510 w8) ((zI_comm _ (by decide) _ _).trans (congrArg (fun z => zI z 509 w7) ((zI_comm _ (by decide) _ _).trans (congrArg (fun z => zI z 508 w6) ((zI_comm _ (by decide) _ _).trans (congrArg (fun z => zI z 507 w5) (zI_zI _ 506 _ _))))))))))))))))))))))))))))))))))))))))))))))))))))))
theorem sgM_land_zI507 {σ : Sto} {w0 : Int32} {w1 : Int32} {w2 : Int32} {w3 : Int32} {w4 : Int32} {w5 : Int32} {w6 : Int32} {w7 : Int32} {w8 : Int32} {w9 : Int32} {w10 : Int32} {w11 : Int32} {w12 : Int32} {w13 : Int32} {w14 : Int32} {w15 : Nat → Int32} {w16 : Nat → Int32} {w17 : Nat → Int32} {w18 : Nat → Int32} {w19 : Nat → Int32} {w20 : Nat → Int32} {w21 : Nat → Int32} {w22 : Nat → Int32} {w23 : Nat → Int32} {w24 : Nat → Int32} {w25 : Nat → Int32} {w26 : Nat → Int32} {w27 : Nat → Int32} {w28 : Nat → Int32} {w29 : Nat → Int64} {w30 : Nat → Int64} {w31 : Nat → Int64} {g : Int32} : zI (sgM_land σ w0 w1 w2 w3 w4 w5 w6 w7 w8 w9 w10 w11 w12 w13 w14 w15 w16 w17 w18 w19 w20 w21 w22 w23 w24 w25 w26 w27 w28 w29 w30 w31) 507 g = sgM_land σ w0 w1 w2 w3 w4 g w6 w7 w8 w9 w10 w11 w12 w13 w14 w15 w16 w17 w18 w19 w20 w21 w22 w23 w24 w25 w26 w27 w28 w29 w30 w31 := (cm_zI_aL _ _ _ _ _).trans (congrArg (fun z => aL z 628 w31) ((cm_zI_aL _ _ _ _ _).trans (congrArg (fun z => aL z 627 w30) ((cm_zI_aL _ _ _ _ _).trans (congrArg (fun z => aL z 626 w29) ((cm_zI_aI _ _ _ _ _).trans (congrArg (fun z => aI z 640 w28) ((cm_zI_aI _ _ _ _ _).trans (congrArg (fun z => aI z 632 w27) ((cm_zI_aI _ _ _ _ _).trans (congrArg (fun z => aI z 625 w26) ((cm_zI_aI _ _ _ _ _).trans (congrArg (fun z => aI z 624 w25) ((cm_zI_aI _ _ _ _ _).trans (congrArg (fun z => aI z 621 w24) ((cm_zI_aI _ _ _ _ _).trans (congrArg (fun z => aI z 620 w23) ((cm_zI_aI _ _ _ _ _).trans (congrArg (fun z => aI z 618 w22) ((cm_zI_aI _ _ _ _ _).trans (congrArg (fun z => aI z 617 w21) ((cm_zI_aI _ _ _ _ _).trans (congrArg (fun z => aI z 616 w20) ((cm_zI_aI _ _ _ _ _).trans (congrArg (fun z => aI z 615 w19) ((cm_zI_aI _ _ _ _ _).trans (congrArg (fun z => aI z 614 w18) ((cm_zI_aI _ _ _ _ _).trans (congrArg (fun z => aI z 613 w17) ((cm_zI_aI _ _ _ _ _).trans (congrArg (fun z => aI z 612 w16) ((cm_zI_aI _ _ _ _ _).trans (congrArg (fun z => aI z 611 w15) ((zI_comm _ (by decide) _ _).trans (congrArg (fun z => zI z 554 w14) ((zI_comm _ (by decide) _ _).trans (congrArg (fun z => zI z 543 w13) ((zI_comm _ (by decide) _ _).trans (congrArg (fun z => zI z 541 w12) ((zI_comm _ (by decide) _ _).trans (congrArg (fun z => zI z 523 w11) ((zI_comm _ (by decide) _ _).trans (congrArg (fun z => zI z 522 w10) ((zI_comm _ (by decide) _ _).trans (congrArg (fun z => zI z 519 w9) ((zI_comm _ (by decide) _ _).trans (congrArg (fun z => zI z 510 w8) ((zI_comm _ (by decide) _ _).trans (congrArg (fun z => zI z 509 w7) ((zI_comm _ (by decide) _ _).trans (congrArg (fun z => zI z 508 w6) (zI_zI _ 507 _ _))))))))))))))))))))))))))))))))))))))))))))))))))))
theorem sgM_land_zI508 {σ : Sto} {w0 : Int32} {w1 : Int32} {w2 : Int32} {w3 : Int32} {w4 : Int32} {w5 : Int32} {w6 : Int32} {w7 : Int32} {w8 : Int32} {w9 : Int32} {w10 : Int32} {w11 : Int32} {w12 : Int32} {w13 : Int32} {w14 : Int32} {w15 : Nat → Int32} {w16 : Nat → Int32} {w17 : Nat → Int32} {w18 : Nat → Int32} {w19 : Nat → Int32} {w20 : Nat → Int32} {w21 : Nat → Int32} {w22 : Nat → Int32} {w23 : Nat → Int32} {w24 : Nat → Int32} {w25 : Nat → Int32} {w26 : Nat → Int32} {w27 : Nat → Int32} {w28 : Nat → Int32} {w29 : Nat → Int64} {w30 : Nat → Int64} {w31 : Nat → Int64} {g : Int32} : zI (sgM_land σ w0 w1 w2 w3 w4 w5 w6 w7 w8 w9 w10 w11 w12 w13 w14 w15 w16 w17 w18 w19 w20 w21 w22 w23 w24 w25 w26 w27 w28 w29 w30 w31) 508 g = sgM_land σ w0 w1 w2 w3 w4 w5 g w7 w8 w9 w10 w11 w12 w13 w14 w15 w16 w17 w18 w19 w20 w21 w22 w23 w24 w25 w26 w27 w28 w29 w30 w31 := (cm_zI_aL _ _ _ _ _).trans (congrArg (fun z => aL z 628 w31) ((cm_zI_aL _ _ _ _ _).trans (congrArg (fun z => aL z 627 w30) ((cm_zI_aL _ _ _ _ _).trans (congrArg (fun z => aL z 626 w29) ((cm_zI_aI _ _ _ _ _).trans (congrArg (fun z => aI z 640 w28) ((cm_zI_aI _ _ _ _ _).trans (congrArg (fun z => aI z 632 w27) ((cm_zI_aI _ _ _ _ _).trans (congrArg (fun z => aI z 625 w26) ((cm_zI_aI _ _ _ _ _).trans (congrArg (fun z => aI z 624 w25) ((cm_zI_aI _ _ _ _ _).trans (congrArg (fun z => aI z 621 w24) ((cm_zI_aI _ _ _ _ _).trans (congrArg (fun z => aI z 620 w23) ((cm_zI_aI _ _ _ _ _).trans (congrArg (fun z => aI z 618 w22) ((cm_zI_aI _ _ _ _ _).trans (congrArg (fun z => aI z 617 w21) ((cm_zI_aI _ _ _ _ _).trans (congrArg (fun z => aI z 616 w20) ((cm_zI_aI _ _ _ _ _).trans (congrArg (fun z => aI z 615 w19) ((cm_zI_aI _ _ _ _ _).trans (congrArg (fun z => aI z 614 w18) ((cm_zI_aI _ _ _ _ _).trans (congrArg (fun z => aI z 613 w17) ((cm_zI_aI _ _ _ _ _).trans (congrArg (fun z => aI z 612 w16) ((cm_zI_aI _ _ _ _ _).trans (congrArg (fun z => aI z 611 w15) ((zI_comm _ (by decide) _ _).trans (congrArg (fun z => zI z 554 w14) ((zI_comm _ (by decide) _ _).trans (congrArg (fun z => zI z 543 w13) ((zI_comm _ (by decide) _ _).trans (congrArg (fun z => zI z 541 w12) ((zI_comm _ (by decide) _ _).trans (congrArg (fun z => zI z 523 w11) ((zI_comm _ (by decide) _ _).trans (congrArg (fun z => zI z 522 w10) ((zI_comm _ (by decide) _ _).trans (congrArg (fun z => zI z 519 w9) ((zI_comm _ (by decide) _ _).trans (congrArg (fun z => zI z 510 w8) ((zI_comm _ (by decide) _ _).trans (congrArg (fun z => zI z 509 w7) (zI_zI _ 508 _ _))))))))))))))))))))))))))))))))))))))))))))))))))
theorem sgM_land_zI509 {σ : Sto} {w0 : Int32} {w1 : Int32} {w2 : Int32} {w3 : Int32} {w4 : Int32} {w5 : Int32} {w6 : Int32} {w7 : Int32} {w8 : Int32} {w9 : Int32} {w10 : Int32} {w11 : Int32} {w12 : Int32} {w13 : Int32} {w14 : Int32} {w15 : Nat → Int32} {w16 : Nat → Int32} {w17 : Nat → Int32} {w18 : Nat → Int32} {w19 : Nat → Int32} {w20 : Nat → Int32} {w21 : Nat → Int32} {w22 : Nat → Int32} {w23 : Nat → Int32} {w24 : Nat → Int32} {w25 : Nat → Int32} {w26 : Nat → Int32} {w27 : Nat → Int32} {w28 : Nat → Int32} {w29 : Nat → Int64} {w30 : Nat → Int64} {w31 : Nat → Int64} {g : Int32} : zI (sgM_land σ w0 w1 w2 w3 w4 w5 w6 w7 w8 w9 w10 w11 w12 w13 w14 w15 w16 w17 w18 w19 w20 w21 w22 w23 w24 w25 w26 w27 w28 w29 w30 w31) 509 g = sgM_land σ w0 w1 w2 w3 w4 w5 w6 g w8 w9 w10 w11 w12 w13 w14 w15 w16 w17 w18 w19 w20 w21 w22 w23 w24 w25 w26 w27 w28 w29 w30 w31 := (cm_zI_aL _ _ _ _ _).trans (congrArg (fun z => aL z 628 w31) ((cm_zI_aL _ _ _ _ _).trans (congrArg (fun z => aL z 627 w30) ((cm_zI_aL _ _ _ _ _).trans (congrArg (fun z => aL z 626 w29) ((cm_zI_aI _ _ _ _ _).trans (congrArg (fun z => aI z 640 w28) ((cm_zI_aI _ _ _ _ _).trans (congrArg (fun z => aI z 632 w27) ((cm_zI_aI _ _ _ _ _).trans (congrArg (fun z => aI z 625 w26) ((cm_zI_aI _ _ _ _ _).trans (congrArg (fun z => aI z 624 w25) ((cm_zI_aI _ _ _ _ _).trans (congrArg (fun z => aI z 621 w24) ((cm_zI_aI _ _ _ _ _).trans (congrArg (fun z => aI z 620 w23) ((cm_zI_aI _ _ _ _ _).trans (congrArg (fun z => aI z 618 w22) ((cm_zI_aI _ _ _ _ _).trans (congrArg (fun z => aI z 617 w21) ((cm_zI_aI _ _ _ _ _).trans (congrArg (fun z => aI z 616 w20) ((cm_zI_aI _ _ _ _ _).trans (congrArg (fun z => aI z 615 w19) ((cm_zI_aI _ _ _ _ _).trans (congrArg (fun z => aI z 614 w18) ((cm_zI_aI _ _ _ _ _).trans (congrArg (fun z => aI z 613 w17) ((cm_zI_aI _ _ _ _ _).trans (congrArg (fun z => aI z 612 w16) ((cm_zI_aI _ _ _ _ _).trans (congrArg (fun z => aI z 611 w15) ((zI_comm _ (by decide) _ _).trans (congrArg (fun z => zI z 554 w14) ((zI_comm _ (by decide) _ _).trans (congrArg (fun z => zI z 543 w13) ((zI_comm _ (by decide) _ _).trans (congrArg (fun z => zI z 541 w12) ((zI_comm _ (by decide) _ _).trans (congrArg (fun z => zI z 523 w11) ((zI_comm _ (by decide) _ _).trans (congrArg (fun z => zI z 522 w10) ((zI_comm _ (by decide) _ _).trans (congrArg (fun z => zI z 519 w9) ((zI_comm _ (by decide) _ _).trans (congrArg (fun z => zI z 510 w8) (zI_zI _ 509 _ _))))))))))))))))))))))))))))))))))))))))))))))))
theorem sgM_land_zI510 {σ : Sto} {w0 : Int32} {w1 : Int32} {w2 : Int32} {w3 : Int32} {w4 : Int32} {w5 : Int32} {w6 : Int32} {w7 : Int32} {w8 : Int32} {w9 : Int32} {w10 : Int32} {w11 : Int32} {w12 : Int32} {w13 : Int32} {w14 : Int32} {w15 : Nat → Int32} {w16 : Nat → Int32} {w17 : Nat → Int32} {w18 : Nat → Int32} {w19 : Nat → Int32} {w20 : Nat → Int32} {w21 : Nat → Int32} {w22 : Nat → Int32} {w23 : Nat → Int32} {w24 : Nat → Int32} {w25 : Nat → Int32} {w26 : Nat → Int32} {w27 : Nat → Int32} {w28 : Nat → Int32} {w29 : Nat → Int64} {w30 : Nat → Int64} {w31 : Nat → Int64} {g : Int32} : zI (sgM_land σ w0 w1 w2 w3 w4 w5 w6 w7 w8 w9 w10 w11 w12 w13 w14 w15 w16 w17 w18 w19 w20 w21 w22 w23 w24 w25 w26 w27 w28 w29 w30 w31) 510 g = sgM_land σ w0 w1 w2 w3 w4 w5 w6 w7 g w9 w10 w11 w12 w13 w14 w15 w16 w17 w18 w19 w20 w21 w22 w23 w24 w25 w26 w27 w28 w29 w30 w31 := (cm_zI_aL _ _ _ _ _).trans (congrArg (fun z => aL z 628 w31) ((cm_zI_aL _ _ _ _ _).trans (congrArg (fun z => aL z 627 w30) ((cm_zI_aL _ _ _ _ _).trans (congrArg (fun z => aL z 626 w29) ((cm_zI_aI _ _ _ _ _).trans (congrArg (fun z => aI z 640 w28) ((cm_zI_aI _ _ _ _ _).trans (congrArg (fun z => aI z 632 w27) ((cm_zI_aI _ _ _ _ _).trans (congrArg (fun z => aI z 625 w26) ((cm_zI_aI _ _ _ _ _).trans (congrArg (fun z => aI z 624 w25) ((cm_zI_aI _ _ _ _ _).trans (congrArg (fun z => aI z 621 w24) ((cm_zI_aI _ _ _ _ _).trans (congrArg (fun z => aI z 620 w23) ((cm_zI_aI _ _ _ _ _).trans (congrArg (fun z => aI z 618 w22) ((cm_zI_aI _ _ _ _ _).trans (congrArg (fun z => aI z 617 w21) ((cm_zI_aI _ _ _ _ _).trans (congrArg (fun z => aI z 616 w20) ((cm_zI_aI _ _ _ _ _).trans (congrArg (fun z => aI z 615 w19) ((cm_zI_aI _ _ _ _ _).trans (congrArg (fun z => aI z 614 w18) ((cm_zI_aI _ _ _ _ _).trans (congrArg (fun z => aI z 613 w17) ((cm_zI_aI _ _ _ _ _).trans (congrArg (fun z => aI z 612 w16) ((cm_zI_aI _ _ _ _ _).trans (congrArg (fun z => aI z 611 w15) ((zI_comm _ (by decide) _ _).trans (congrArg (fun z => zI z 554 w14) ((zI_comm _ (by decide) _ _).trans (congrArg (fun z => zI z 543 w13) ((zI_comm _ (by decide) _ _).trans (congrArg (fun z => zI z 541 w12) ((zI_comm _ (by decide) _ _).trans (congrArg (fun z => zI z 523 w11) ((zI_comm _ (by decide) _ _).trans (congrArg (fun z => zI z 522 w10) ((zI_comm _ (by decide) _ _).trans (congrArg (fun z => zI z 519 w9) (zI_zI _ 510 _ _))))))))))))))))))))))))))))))))))))))))))))))
theorem sgM_land_zI519 {σ : Sto} {w0 : Int32} {w1 : Int32} {w2 : Int32} {w3 : Int32} {w4 : Int32} {w5 : Int32} {w6 : Int32} {w7 : Int32} {w8 : Int32} {w9 : Int32} {w10 : Int32} {w11 : Int32} {w12 : Int32} {w13 : Int32} {w14 : Int32} {w15 : Nat → Int32} {w16 : Nat → Int32} {w17 : Nat → Int32} {w18 : Nat → Int32} {w19 : Nat → Int32} {w20 : Nat → Int32} {w21 : Nat → Int32} {w22 : Nat → Int32} {w23 : Nat → Int32} {w24 : Nat → Int32} {w25 : Nat → Int32} {w26 : Nat → Int32} {w27 : Nat → Int32} {w28 : Nat → Int32} {w29 : Nat → Int64} {w30 : Nat → Int64} {w31 : Nat → Int64} {g : Int32} : zI (sgM_land σ w0 w1 w2 w3 w4 w5 w6 w7 w8 w9 w10 w11 w12 w13 w14 w15 w16 w17 w18 w19 w20 w21 w22 w23 w24 w25 w26 w27 w28 w29 w30 w31) 519 g = sgM_land σ w0 w1 w2 w3 w4 w5 w6 w7 w8 g w10 w11 w12 w13 w14 w15 w16 w17 w18 w19 w20 w21 w22 w23 w24 w25 w26 w27 w28 w29 w30 w31 := (cm_zI_aL _ _ _ _ _).trans (congrArg (fun z => aL z 628 w31) ((cm_zI_aL _ _ _ _ _).trans (congrArg (fun z => aL z 627 w30) ((cm_zI_aL _ _ _ _ _).trans (congrArg (fun z => aL z 626 w29) ((cm_zI_aI _ _ _ _ _).trans (congrArg (fun z => aI z 640 w28) ((cm_zI_aI _ _ _ _ _).trans (congrArg (fun z => aI z 632 w27) ((cm_zI_aI _ _ _ _ _).trans (congrArg (fun z => aI z 625 w26) ((cm_zI_aI _ _ _ _ _).trans (congrArg (fun z => aI z 624 w25) ((cm_zI_aI _ _ _ _ _).trans (congrArg (fun z => aI z 621 w24) ((cm_zI_aI _ _ _ _ _).trans (congrArg (fun z => aI z 620 w23) ((cm_zI_aI _ _ _ _ _).trans (congrArg (fun z => aI z 618 w22) ((cm_zI_aI _ _ _ _ _).trans (congrArg (fun z => aI z 617 w21) ((cm_zI_aI _ _ _ _ _).trans (congrArg (fun z => aI z 616 w20) ((cm_zI_aI _ _ _ _ _).trans (congrArg (fun z => aI z 615 w19) ((cm_zI_aI _ _ _ _ _).trans (congrArg (fun z => aI z 614 w18) ((cm_zI_aI _ _ _ _ _).trans (congrArg (fun z => aI z 613 w17) ((cm_zI_aI _ _ _ _ _).trans (congrArg (fun z => aI z 612 w16) ((cm_zI_aI _ _ _ _ _).trans (congrArg (fun z => aI z 611 w15) ((zI_comm _ (by decide) _ _).trans (congrArg (fun z => zI z 554 w14) ((zI_comm _ (by decide) _ _).trans (congrArg (fun z => zI z 543 w13) ((zI_comm _ (by decide) _ _).trans (congrArg (fun z => zI z 541 w12) ((zI_comm _ (by decide) _ _).trans (congrArg (fun z => zI z 523 w11) ((zI_comm _ (by decide) _ _).trans (congrArg (fun z => zI z 522 w10) (zI_zI _ 519 _ _))))))))))))))))))))))))))))))))))))))))))))
theorem sgM_land_zI522 {σ : Sto} {w0 : Int32} {w1 : Int32} {w2 : Int32} {w3 : Int32} {w4 : Int32} {w5 : Int32} {w6 : Int32} {w7 : Int32} {w8 : Int32} {w9 : Int32} {w10 : Int32} {w11 : Int32} {w12 : Int32} {w13 : Int32} {w14 : Int32} {w15 : Nat → Int32} {w16 : Nat → Int32} {w17 : Nat → Int32} {w18 : Nat → Int32} {w19 : Nat → Int32} {w20 : Nat → Int32} {w21 : Nat → Int32} {w22 : Nat → Int32} {w23 : Nat → Int32} {w24 : Nat → Int32} {w25 : Nat → Int32} {w26 : Nat → Int32} {w27 : Nat → Int32} {w28 : Nat → Int32} {w29 : Nat → Int64} {w30 : Nat → Int64} {w31 : Nat → Int64} {g : Int32} : zI (sgM_land σ w0 w1 w2 w3 w4 w5 w6 w7 w8 w9 w10 w11 w12 w13 w14 w15 w16 w17 w18 w19 w20 w21 w22 w23 w24 w25 w26 w27 w28 w29 w30 w31) 522 g = sgM_land σ w0 w1 w2 w3 w4 w5 w6 w7 w8 w9 g w11 w12 w13 w14 w15 w16 w17 w18 w19 w20 w21 w22 w23 w24 w25 w26 w27 w28 w29 w30 w31 := (cm_zI_aL _ _ _ _ _).trans (congrArg (fun z => aL z 628 w31) ((cm_zI_aL _ _ _ _ _).trans (congrArg (fun z => aL z 627 w30) ((cm_zI_aL _ _ _ _ _).trans (congrArg (fun z => aL z 626 w29) ((cm_zI_aI _ _ _ _ _).trans (congrArg (fun z => aI z 640 w28) ((cm_zI_aI _ _ _ _ _).trans (congrArg (fun z => aI z 632 w27) ((cm_zI_aI _ _ _ _ _).trans (congrArg (fun z => aI z 625 w26) ((cm_zI_aI _ _ _ _ _).trans (congrArg (fun z => aI z 624 w25) ((cm_zI_aI _ _ _ _ _).trans (congrArg (fun z => aI z 621 w24) ((cm_zI_aI _ _ _ _ _).trans (congrArg (fun z => aI z 620 w23) ((cm_zI_aI _ _ _ _ _).trans (congrArg (fun z => aI z 618 w22) ((cm_zI_aI _ _ _ _ _).trans (congrArg (fun z => aI z 617 w21) ((cm_zI_aI _ _ _ _ _).trans (congrArg (fun z => aI z 616 w20) ((cm_zI_aI _ _ _ _ _).trans (congrArg (fun z => aI z 615 w19) ((cm_zI_aI _ _ _ _ _).trans (congrArg (fun z => aI z 614 w18) ((cm_zI_aI _ _ _ _ _).trans (congrArg (fun z => aI z 613 w17) ((cm_zI_aI _ _ _ _ _).trans (congrArg (fun z => aI z 612 w16) ((cm_zI_aI _ _ _ _ _).trans (congrArg (fun z => aI z 611 w15) ((zI_comm _ (by decide) _ _).trans (congrArg (fun z => zI z 554 w14) ((zI_comm _ (by decide) _ _).trans (congrArg (fun z => zI z 543 w13) ((zI_comm _ (by decide) _ _).trans (congrArg (fun z => zI z 541 w12) ((zI_comm _ (by decide) _ _).trans (congrArg (fun z => zI z 523 w11) (zI_zI _ 522 _ _))))))))))))))))))))))))))))))))))))))))))
theorem sgM_land_zI523 {σ : Sto} {w0 : Int32} {w1 : Int32} {w2 : Int32} {w3 : Int32} {w4 : Int32} {w5 : Int32} {w6 : Int32} {w7 : Int32} {w8 : Int32} {w9 : Int32} {w10 : Int32} {w11 : Int32} {w12 : Int32} {w13 : Int32} {w14 : Int32} {w15 : Nat → Int32} {w16 : Nat → Int32} {w17 : Nat → Int32} {w18 : Nat → Int32} {w19 : Nat → Int32} {w20 : Nat → Int32} {w21 : Nat → Int32} {w22 : Nat → Int32} {w23 : Nat → Int32} {w24 : Nat → Int32} {w25 : Nat → Int32} {w26 : Nat → Int32} {w27 : Nat → Int32} {w28 : Nat → Int32} {w29 : Nat → Int64} {w30 : Nat → Int64} {w31 : Nat → Int64} {g : Int32} : zI (sgM_land σ w0 w1 w2 w3 w4 w5 w6 w7 w8 w9 w10 w11 w12 w13 w14 w15 w16 w17 w18 w19 w20 w21 w22 w23 w24 w25 w26 w27 w28 w29 w30 w31) 523 g = sgM_land σ w0 w1 w2 w3 w4 w5 w6 w7 w8 w9 w10 g w12 w13 w14 w15 w16 w17 w18 w19 w20 w21 w22 w23 w24 w25 w26 w27 w28 w29 w30 w31 := (cm_zI_aL _ _ _ _ _).trans (congrArg (fun z => aL z 628 w31) ((cm_zI_aL _ _ _ _ _).trans (congrArg (fun z => aL z 627 w30) ((cm_zI_aL _ _ _ _ _).trans (congrArg (fun z => aL z 626 w29) ((cm_zI_aI _ _ _ _ _).trans (congrArg (fun z => aI z 640 w28) ((cm_zI_aI _ _ _ _ _).trans (congrArg (fun z => aI z 632 w27) ((cm_zI_aI _ _ _ _ _).trans (congrArg (fun z => aI z 625 w26) ((cm_zI_aI _ _ _ _ _).trans (congrArg (fun z => aI z 624 w25) ((cm_zI_aI _ _ _ _ _).trans (congrArg (fun z => aI z 621 w24) ((cm_zI_aI _ _ _ _ _).trans (congrArg (fun z => aI z 620 w23) ((cm_zI_aI _ _ _ _ _).trans (congrArg (fun z => aI z 618 w22) ((cm_zI_aI _ _ _ _ _).trans (congrArg (fun z => aI z 617 w21) ((cm_zI_aI _ _ _ _ _).trans (congrArg (fun z => aI z 616 w20) ((cm_zI_aI _ _ _ _ _).trans (congrArg (fun z => aI z 615 w19) ((cm_zI_aI _ _ _ _ _).trans (congrArg (fun z => aI z 614 w18) ((cm_zI_aI _ _ _ _ _).trans (congrArg (fun z => aI z 613 w17) ((cm_zI_aI _ _ _ _ _).trans (congrArg (fun z => aI z 612 w16) ((cm_zI_aI _ _ _ _ _).trans (congrArg (fun z => aI z 611 w15) ((zI_comm _ (by decide) _ _).trans (congrArg (fun z => zI z 554 w14) ((zI_comm _ (by decide) _ _).trans (congrArg (fun z => zI z 543 w13) ((zI_comm _ (by decide) _ _).trans (congrArg (fun z => zI z 541 w12) (zI_zI _ 523 _ _))))))))))))))))))))))))))))))))))))))))
theorem sgM_land_zI541 {σ : Sto} {w0 : Int32} {w1 : Int32} {w2 : Int32} {w3 : Int32} {w4 : Int32} {w5 : Int32} {w6 : Int32} {w7 : Int32} {w8 : Int32} {w9 : Int32} {w10 : Int32} {w11 : Int32} {w12 : Int32} {w13 : Int32} {w14 : Int32} {w15 : Nat → Int32} {w16 : Nat → Int32} {w17 : Nat → Int32} {w18 : Nat → Int32} {w19 : Nat → Int32} {w20 : Nat → Int32} {w21 : Nat → Int32} {w22 : Nat → Int32} {w23 : Nat → Int32} {w24 : Nat → Int32} {w25 : Nat → Int32} {w26 : Nat → Int32} {w27 : Nat → Int32} {w28 : Nat → Int32} {w29 : Nat → Int64} {w30 : Nat → Int64} {w31 : Nat → Int64} {g : Int32} : zI (sgM_land σ w0 w1 w2 w3 w4 w5 w6 w7 w8 w9 w10 w11 w12 w13 w14 w15 w16 w17 w18 w19 w20 w21 w22 w23 w24 w25 w26 w27 w28 w29 w30 w31) 541 g = sgM_land σ w0 w1 w2 w3 w4 w5 w6 w7 w8 w9 w10 w11 g w13 w14 w15 w16 w17 w18 w19 w20 w21 w22 w23 w24 w25 w26 w27 w28 w29 w30 w31 := (cm_zI_aL _ _ _ _ _).trans (congrArg (fun z => aL z 628 w31) ((cm_zI_aL _ _ _ _ _).trans (congrArg (fun z => aL z 627 w30) ((cm_zI_aL _ _ _ _ _).trans (congrArg (fun z => aL z 626 w29) ((cm_zI_aI _ _ _ _ _).trans (congrArg (fun z => aI z 640 w28) ((cm_zI_aI _ _ _ _ _).trans (congrArg (fun z => aI z 632 w27) ((cm_zI_aI _ _ _ _ _).trans (congrArg (fun z => aI z 625 w26) ((cm_zI_aI _ _ _ _ _).trans (congrArg (fun z => aI z 624 w25) ((cm_zI_aI _ _ _ _ _).trans (congrArg (fun z => aI z 621 w24) ((cm_zI_aI _ _ _ _ _).trans (congrArg (fun z => aI z 620 w23) ((cm_zI_aI _ _ _ _ _).trans (congrArg (fun z => aI z 618 w22) ((cm_zI_aI _ _ _ _ _).trans (congrArg (fun z => aI z 617 w21) ((cm_zI_aI _ _ _ _ _).trans (congrArg (fun z => aI z 616 w20) ((cm_zI_aI _ _ _ _ _).trans (congrArg (fun z => aI z 615 w19) ((cm_zI_aI _ _ _ _ _).trans (congrArg (fun z => aI z 614 w18) ((cm_zI_aI _ _ _ _ _).trans (congrArg (fun z => aI z 613 w17) ((cm_zI_aI _ _ _ _ _).trans (congrArg (fun z => aI z 612 w16) ((cm_zI_aI _ _ _ _ _).trans (congrArg (fun z => aI z 611 w15) ((zI_comm _ (by decide) _ _).trans (congrArg (fun z => zI z 554 w14) ((zI_comm _ (by decide) _ _).trans (congrArg (fun z => zI z 543 w13) (zI_zI _ 541 _ _))))))))))))))))))))))))))))))))))))))
theorem sgM_land_zI543 {σ : Sto} {w0 : Int32} {w1 : Int32} {w2 : Int32} {w3 : Int32} {w4 : Int32} {w5 : Int32} {w6 : Int32} {w7 : Int32} {w8 : Int32} {w9 : Int32} {w10 : Int32} {w11 : Int32} {w12 : Int32} {w13 : Int32} {w14 : Int32} {w15 : Nat → Int32} {w16 : Nat → Int32} {w17 : Nat → Int32} {w18 : Nat → Int32} {w19 : Nat → Int32} {w20 : Nat → Int32} {w21 : Nat → Int32} {w22 : Nat → Int32} {w23 : Nat → Int32} {w24 : Nat → Int32} {w25 : Nat → Int32} {w26 : Nat → Int32} {w27 : Nat → Int32} {w28 : Nat → Int32} {w29 : Nat → Int64} {w30 : Nat → Int64} {w31 : Nat → Int64} {g : Int32} : zI (sgM_land σ w0 w1 w2 w3 w4 w5 w6 w7 w8 w9 w10 w11 w12 w13 w14 w15 w16 w17 w18 w19 w20 w21 w22 w23 w24 w25 w26 w27 w28 w29 w30 w31) 543 g = sgM_land σ w0 w1 w2 w3 w4 w5 w6 w7 w8 w9 w10 w11 w12 g w14 w15 w16 w17 w18 w19 w20 w21 w22 w23 w24 w25 w26 w27 w28 w29 w30 w31 := (cm_zI_aL _ _ _ _ _).trans (congrArg (fun z => aL z 628 w31) ((cm_zI_aL _ _ _ _ _).trans (congrArg (fun z => aL z 627 w30) ((cm_zI_aL _ _ _ _ _).trans (congrArg (fun z => aL z 626 w29) ((cm_zI_aI _ _ _ _ _).trans (congrArg (fun z => aI z 640 w28) ((cm_zI_aI _ _ _ _ _).trans (congrArg (fun z => aI z 632 w27) ((cm_zI_aI _ _ _ _ _).trans (congrArg (fun z => aI z 625 w26) ((cm_zI_aI _ _ _ _ _).trans (congrArg (fun z => aI z 624 w25) ((cm_zI_aI _ _ _ _ _).trans (congrArg (fun z => aI z 621 w24) ((cm_zI_aI _ _ _ _ _).trans (congrArg (fun z => aI z 620 w23) ((cm_zI_aI _ _ _ _ _).trans (congrArg (fun z => aI z 618 w22) ((cm_zI_aI _ _ _ _ _).trans (congrArg (fun z => aI z 617 w21) ((cm_zI_aI _ _ _ _ _).trans (congrArg (fun z => aI z 616 w20) ((cm_zI_aI _ _ _ _ _).trans (congrArg (fun z => aI z 615 w19) ((cm_zI_aI _ _ _ _ _).trans (congrArg (fun z => aI z 614 w18) ((cm_zI_aI _ _ _ _ _).trans (congrArg (fun z => aI z 613 w17) ((cm_zI_aI _ _ _ _ _).trans (congrArg (fun z => aI z 612 w16) ((cm_zI_aI _ _ _ _ _).trans (congrArg (fun z => aI z 611 w15) ((zI_comm _ (by decide) _ _).trans (congrArg (fun z => zI z 554 w14) (zI_zI _ 543 _ _))))))))))))))))))))))))))))))))))))
theorem sgM_land_zI554 {σ : Sto} {w0 : Int32} {w1 : Int32} {w2 : Int32} {w3 : Int32} {w4 : Int32} {w5 : Int32} {w6 : Int32} {w7 : Int32} {w8 : Int32} {w9 : Int32} {w10 : Int32} {w11 : Int32} {w12 : Int32} {w13 : Int32} {w14 : Int32} {w15 : Nat → Int32} {w16 : Nat → Int32} {w17 : Nat → Int32} {w18 : Nat → Int32} {w19 : Nat → Int32} {w20 : Nat → Int32} {w21 : Nat → Int32} {w22 : Nat → Int32} {w23 : Nat → Int32} {w24 : Nat → Int32} {w25 : Nat → Int32} {w26 : Nat → Int32} {w27 : Nat → Int32} {w28 : Nat → Int32} {w29 : Nat → Int64} {w30 : Nat → Int64} {w31 : Nat → Int64} {g : Int32} : zI (sgM_land σ w0 w1 w2 w3 w4 w5 w6 w7 w8 w9 w10 w11 w12 w13 w14 w15 w16 w17 w18 w19 w20 w21 w22 w23 w24 w25 w26 w27 w28 w29 w30 w31) 554 g = sgM_land σ w0 w1 w2 w3 w4 w5 w6 w7 w8 w9 w10 w11 w12 w13 g w15 w16 w17 w18 w19 w20 w21 w22 w23 w24 w25 w26 w27 w28 w29 w30 w31 := (cm_zI_aL _ _ _ _ _).trans (congrArg (fun z => aL z 628 w31) ((cm_zI_aL _ _ _ _ _).trans (congrArg (fun z => aL z 627 w30) ((cm_zI_aL _ _ _ _ _).trans (congrArg (fun z => aL z 626 w29) ((cm_zI_aI _ _ _ _ _).trans (congrArg (fun z => aI z 640 w28) ((cm_zI_aI _ _ _ _ _).trans (congrArg (fun z => aI z 632 w27) ((cm_zI_aI _ _ _ _ _).trans (congrArg (fun z => aI z 625 w26) ((cm_zI_aI _ _ _ _ _).trans (congrArg (fun z => aI z 624 w25) ((cm_zI_aI _ _ _ _ _).trans (congrArg (fun z => aI z 621 w24) ((cm_zI_aI _ _ _ _ _).trans (congrArg (fun z => aI z 620 w23) ((cm_zI_aI _ _ _ _ _).trans (congrArg (fun z => aI z 618 w22) ((cm_zI_aI _ _ _ _ _).trans (congrArg (fun z => aI z 617 w21) ((cm_zI_aI _ _ _ _ _).trans (congrArg (fun z => aI z 616 w20) ((cm_zI_aI _ _ _ _ _).trans (congrArg (fun z => aI z 615 w19) ((cm_zI_aI _ _ _ _ _).trans (congrArg (fun z => aI z 614 w18) ((cm_zI_aI _ _ _ _ _).trans (congrArg (fun z => aI z 613 w17) ((cm_zI_aI _ _ _ _ _).trans (congrArg (fun z => aI z 612 w16) ((cm_zI_aI _ _ _ _ _).trans (congrArg (fun z => aI z 611 w15) (zI_zI _ 554 _ _))))))))))))))))))))))))))))))))))
theorem sgM_land_aI611 {σ : Sto} {w0 : Int32} {w1 : Int32} {w2 : Int32} {w3 : Int32} {w4 : Int32} {w5 : Int32} {w6 : Int32} {w7 : Int32} {w8 : Int32} {w9 : Int32} {w10 : Int32} {w11 : Int32} {w12 : Int32} {w13 : Int32} {w14 : Int32} {w15 : Nat → Int32} {w16 : Nat → Int32} {w17 : Nat → Int32} {w18 : Nat → Int32} {w19 : Nat → Int32} {w20 : Nat → Int32} {w21 : Nat → Int32} {w22 : Nat → Int32} {w23 : Nat → Int32} {w24 : Nat → Int32} {w25 : Nat → Int32} {w26 : Nat → Int32} {w27 : Nat → Int32} {w28 : Nat → Int32} {w29 : Nat → Int64} {w30 : Nat → Int64} {w31 : Nat → Int64} {g : Nat → Int32} : aI (sgM_land σ w0 w1 w2 w3 w4 w5 w6 w7 w8 w9 w10 w11 w12 w13 w14 w15 w16 w17 w18 w19 w20 w21 w22 w23 w24 w25 w26 w27 w28 w29 w30 w31) 611 g = sgM_land σ w0 w1 w2 w3 w4 w5 w6 w7 w8 w9 w10 w11 w12 w13 w14 g w16 w17 w18 w19 w20 w21 w22 w23 w24 w25 w26 w27 w28 w29 w30 w31 := (cm_aI_aL _ _ _ _ _).trans (congrArg (fun z => aL z 628 w31) ((cm_aI_aL _ _ _ _ _).trans (congrArg (fun z => aL z 627 w30) ((cm_aI_aL _ _ _ _ _).trans (congrArg (fun z => aL z 626 w29) ((aI_comm _ (by decide) _ _).trans (congrArg (fun z => aI z 640 w28) ((aI_comm _ (by decide) _ _).trans (congrArg (fun z => aI z 632 w27) ((aI_comm _ (by decide) _ _).trans (congrArg (fun z => aI z 625 w26) ((aI_comm _ (by decide) _ _).trans (congrArg (fun z => aI z 624 w25) ((aI_comm _ (by decide) _ _).trans (congrArg (fun z => aI z 621 w24) ((aI_comm _ (by decide) _ _).trans (congrArg (fun z => aI z 620 w23) ((aI_comm _ (by decide) _ _).trans (congrArg (fun z => aI z 618 w22) ((aI_comm _ (by decide) _ _).trans (congrArg (fun z => aI z 617 w21) ((aI_comm _ (by decide) _ _).trans (congrArg (fun z => aI z 616 w20) ((aI_comm _ (by decide) _ _).trans (congrArg (fun z => aI z 615 w19) ((aI_comm _ (by decide) _ _).trans (congrArg (fun z => aI z 614 w18) ((aI_comm _ (by decide) _ _).trans (congrArg (fun z => aI z 613 w17) ((aI_comm _ (by decide) _ _).trans (congrArg (fun z => aI z 612 w16) (aI_aI _ 611 _ _))))))))))))))))))))))))))))))))
theorem sgM_land_aI612 {σ : Sto} {w0 : Int32} {w1 : Int32} {w2 : Int32} {w3 : Int32} {w4 : Int32} {w5 : Int32} {w6 : Int32} {w7 : Int32} {w8 : Int32} {w9 : Int32} {w10 : Int32} {w11 : Int32} {w12 : Int32} {w13 : Int32} {w14 : Int32} {w15 : Nat → Int32} {w16 : Nat → Int32} {w17 : Nat → Int32} {w18 : Nat → Int32} {w19 : Nat → Int32} {w20 : Nat → Int32} {w21 : Nat → Int32} {w22 : Nat → Int32} {w23 : Nat → Int32} {w24 : Nat → Int32} {w25 : Nat → Int32} {w26 : Nat → Int32} {w27 : Nat → Int32} {w28 : Nat → Int32} {w29 : Nat → Int64} {w30 : Nat → Int64} {w31 : Nat → Int64} {g : Nat → Int32} : aI (sgM_land σ w0 w1 w2 w3 w4 w5 w6 w7 w8 w9 w10 w11 w12 w13 w14 w15 w16 w17 w18 w19 w20 w21 w22 w23 w24 w25 w26 w27 w28 w29 w30 w31) 612 g = sgM_land σ w0 w1 w2 w3 w4 w5 w6 w7 w8 w9 w10 w11 w12 w13 w14 w15 g w17 w18 w19 w20 w21 w22 w23 w24 w25 w26 w27 w28 w29 w30 w31 := (cm_aI_aL _ _ _ _ _).trans (congrArg (fun z => aL z 628 w31) ((cm_aI_aL _ _ _ _ _).trans (congrArg (fun z => aL z 627 w30) ((cm_aI_aL _ _ _ _ _).trans (congrArg (fun z => aL z 626 w29) ((aI_comm _ (by decide) _ _).trans (congrArg (fun z => aI z 640 w28) ((aI_comm _ (by decide) _ _).trans (congrArg (fun z => aI z 632 w27) ((aI_comm _ (by decide) _ _).trans (congrArg (fun z => aI z 625 w26) ((aI_comm _ (by decide) _ _).trans (congrArg (fun z => aI z 624 w25) ((aI_comm _ (by decide) _ _).trans (congrArg (fun z => aI z 621 w24) ((aI_comm _ (by decide) _ _).trans (congrArg (fun z => aI z 620 w23) ((aI_comm _ (by decide) _ _).trans (congrArg (fun z => aI z 618 w22) ((aI_comm _ (by decide) _ _).trans (congrArg (fun z => aI z 617 w21) ((aI_comm _ (by decide) _ _).trans (congrArg (fun z => aI z 616 w20) ((aI_comm _ (by decide) _ _).trans (congrArg (fun z => aI z 615 w19) ((aI_comm _ (by decide) _ _).trans (congrArg (fun z => aI z 614 w18) ((aI_comm _ (by decide) _ _).trans (congrArg (fun z => aI z 613 w17) (aI_aI _ 612 _ _))))))))))))))))))))))))))))))
theorem sgM_land_aI613 {σ : Sto} {w0 : Int32} {w1 : Int32} {w2 : Int32} {w3 : Int32} {w4 : Int32} {w5 : Int32} {w6 : Int32} {w7 : Int32} {w8 : Int32} {w9 : Int32} {w10 : Int32} {w11 : Int32} {w12 : Int32} {w13 : Int32} {w14 : Int32} {w15 : Nat → Int32} {w16 : Nat → Int32} {w17 : Nat → Int32} {w18 : Nat → Int32} {w19 : Nat → Int32} {w20 : Nat → Int32} {w21 : Nat → Int32} {w22 : Nat → Int32} {w23 : Nat → Int32} {w24 : Nat → Int32} {w25 : Nat → Int32} {w26 : Nat → Int32} {w27 : Nat → Int32} {w28 : Nat → Int32} {w29 : Nat → Int64} {w30 : Nat → Int64} {w31 : Nat → Int64} {g : Nat → Int32} : aI (sgM_land σ w0 w1 w2 w3 w4 w5 w6 w7 w8 w9 w10 w11 w12 w13 w14 w15 w16 w17 w18 w19 w20 w21 w22 w23 w24 w25 w26 w27 w28 w29 w30 w31) 613 g = sgM_land σ w0 w1 w2 w3 w4 w5 w6 w7 w8 w9 w10 w11 w12 w13 w14 w15 w16 g w18 w19 w20 w21 w22 w23 w24 w25 w26 w27 w28 w29 w30 w31 := (cm_aI_aL _ _ _ _ _).trans (congrArg (fun z => aL z 628 w31) ((cm_aI_aL _ _ _ _ _).trans (congrArg (fun z => aL z 627 w30) ((cm_aI_aL _ _ _ _ _).trans (congrArg (fun z => aL z 626 w29) ((aI_comm _ (by decide) _ _).trans (congrArg (fun z => aI z 640 w28) ((aI_comm _ (by decide) _ _).trans (congrArg (fun z => aI z 632 w27) ((aI_comm _ (by decide) _ _).trans (congrArg (fun z => aI z 625 w26) ((aI_comm _ (by decide) _ _).trans (congrArg (fun z => aI z 624 w25) ((aI_comm _ (by decide) _ _).trans (congrArg (fun z => aI z 621 w24) ((aI_comm _ (by decide) _ _).trans (congrArg (fun z => aI z 620 w23) ((aI_comm _ (by decide) _ _).trans (congrArg (fun z => aI z 618 w22) ((aI_comm _ (by decide) _ _).trans (congrArg (fun z => aI z 617 w21) ((aI_comm _ (by decide) _ _).trans (congrArg (fun z => aI z 616 w20) ((aI_comm _ (by decide) _ _).trans (congrArg (fun z => aI z 615 w19) ((aI_comm _ (by decide) _ _).trans (congrArg (fun z => aI z 614 w18) (aI_aI _ 613 _ _))))))))))))))))))))))))))))
theorem sgM_land_aI614 {σ : Sto} {w0 : Int32} {w1 : Int32} {w2 : Int32} {w3 : Int32} {w4 : Int32} {w5 : Int32} {w6 : Int32} {w7 : Int32} {w8 : Int32} {w9 : Int32} {w10 : Int32} {w11 : Int32} {w12 : Int32} {w13 : Int32} {w14 : Int32} {w15 : Nat → Int32} {w16 : Nat → Int32} {w17 : Nat → Int32} {w18 : Nat → Int32} {w19 : Nat → Int32} {w20 : Nat → Int32} {w21 : Nat → Int32} {w22 : Nat → Int32} {w23 : Nat → Int32} {w24 : Nat → Int32} {w25 : Nat → Int32} {w26 : Nat → Int32} {w27 : Nat → Int32} {w28 : Nat → Int32} {w29 : Nat → Int64} {w30 : Nat → Int64} {w31 : Nat → Int64} {g : Nat → Int32} : aI (sgM_land σ w0 w1 w2 w3 w4 w5 w6 w7 w8 w9 w10 w11 w12 w13 w14 w15 w16 w17 w18 w19 w20 w21 w22 w23 w24 w25 w26 w27 w28 w29 w30 w31) 614 g = sgM_land σ w0 w1 w2 w3 w4 w5 w6 w7 w8 w9 w10 w11 w12 w13 w14 w15 w16 w17 g w19 w20 w21 w22 w23 w24 w25 w26 w27 w28 w29 w30 w31 := (cm_aI_aL _ _ _ _ _).trans (congrArg (fun z => aL z 628 w31) ((cm_aI_aL _ _ _ _ _).trans (congrArg (fun z => aL z 627 w30) ((cm_aI_aL _ _ _ _ _).trans (congrArg (fun z => aL z 626 w29) ((aI_comm _ (by decide) _ _).trans (congrArg (fun z => aI z 640 w28) ((aI_comm _ (by decide) _ _).trans (congrArg (fun z => aI z 632 w27) ((aI_comm _ (by decide) _ _).trans (congrArg (fun z => aI z 625 w26) ((aI_comm _ (by decide) _ _).trans (congrArg (fun z => aI z 624 w25) ((aI_comm _ (by decide) _ _).trans (congrArg (fun z => aI z 621 w24) ((aI_comm _ (by decide) _ _).trans (congrArg (fun z => aI z 620 w23) ((aI_comm _ (by decide) _ _).trans (congrArg (fun z => aI z 618 w22) ((aI_comm _ (by decide) _ _).trans (congrArg (fun z => aI z 617 w21) ((aI_comm _ (by decide) _ _).trans (congrArg (fun z => aI z 616 w20) ((aI_comm _ (by decide) _ _).trans (congrArg (fun z => aI z 615 w19) (aI_aI _ 614 _ _))))))))))))))))))))))))))
theorem sgM_land_aI615 {σ : Sto} {w0 : Int32} {w1 : Int32} {w2 : Int32} {w3 : Int32} {w4 : Int32} {w5 : Int32} {w6 : Int32} {w7 : Int32} {w8 : Int32} {w9 : Int32} {w10 : Int32} {w11 : Int32} {w12 : Int32} {w13 : Int32} {w14 : Int32} {w15 : Nat → Int32} {w16 : Nat → Int32} {w17 : Nat → Int32} {w18 : Nat → Int32} {w19 : Nat → Int32} {w20 : Nat → Int32} {w21 : Nat → Int32} {w22 : Nat → Int32} {w23 : Nat → Int32} {w24 : Nat → Int32} {w25 : Nat → Int32} {w26 : Nat → Int32} {w27 : Nat → Int32} {w28 : Nat → Int32} {w29 : Nat → Int64} {w30 : Nat → Int64} {w31 : Nat → Int64} {g : Nat → Int32} : aI (sgM_land σ w0 w1 w2 w3 w4 w5 w6 w7 w8 w9 w10 w11 w12 w13 w14 w15 w16 w17 w18 w19 w20 w21 w22 w23 w24 w25 w26 w27 w28 w29 w30 w31) 615 g = sgM_land σ w0 w1 w2 w3 w4 w5 w6 w7 w8 w9 w10 w11 w12 w13 w14 w15 w16 w17 w18 g w20 w21 w22 w23 w24 w25 w26 w27 w28 w29 w30 w31 := (cm_aI_aL _ _ _ _ _).trans (congrArg (fun z => aL z 628 w31) ((cm_aI_aL _ _ _ _ _).trans (congrArg (fun z => aL z 627 w30) ((cm_aI_aL _ _ _ _ _).trans (congrArg (fun z => aL z 626 w29) ((aI_comm _ (by decide) _ _).trans (congrArg (fun z => aI z 640 w28) ((aI_comm _ (by decide) _ _).trans (congrArg (fun z => aI z 632 w27) ((aI_comm _ (by decide) _ _).trans (congrArg (fun z => aI z 625 w26) ((aI_comm _ (by decide) _ _).trans (congrArg (fun z => aI z 624 w25) ((aI_comm _ (by decide) _ _).trans (congrArg (fun z => aI z 621 w24) ((aI_comm _ (by decide) _ _).trans (congrArg (fun z => aI z 620 w23) ((aI_comm _ (by decide) _ _).trans (congrArg (fun z => aI z 618 w22) ((aI_comm _ (by decide) _ _).trans (congrArg (fun z => aI z 617 w21) ((aI_comm _ (by decide) _ _).trans (congrArg (fun z => aI z 616 w20) (aI_aI _ 615 _ _))))))))))))))))))))))))
theorem sgM_land_aI616 {σ : Sto} {w0 : Int32} {w1 : Int32} {w2 : Int32} {w3 : Int32} {w4 : Int32} {w5 : Int32} {w6 : Int32} {w7 : Int32} {w8 : Int32} {w9 : Int32} {w10 : Int32} {w11 : Int32} {w12 : Int32} {w13 : Int32} {w14 : Int32} {w15 : Nat → Int32} {w16 : Nat → Int32} {w17 : Nat → Int32} {w18 : Nat → Int32} {w19 : Nat → Int32} {w20 : Nat → Int32} {w21 : Nat → Int32} {w22 : Nat → Int32} {w23 : Nat → Int32} {w24 : Nat → Int32} {w25 : Nat → Int32} {w26 : Nat → Int32} {w27 : Nat → Int32} {w28 : Nat → Int32} {w29 : Nat → Int64} {w30 : Nat → Int64} {w31 : Nat → Int64} {g : Nat → Int32} : aI (sgM_land σ w0 w1 w2 w3 w4 w5 w6 w7 w8 w9 w10 w11 w12 w13 w14 w15 w16 w17 w18 w19 w20 w21 w22 w23 w24 w25 w26 w27 w28 w29 w30 w31) 616 g = sgM_land σ w0 w1 w2 w3 w4 w5 w6 w7 w8 w9 w10 w11 w12 w13 w14 w15 w16 w17 w18 w19 g w21 w22 w23 w24 w25 w26 w27 w28 w29 w30 w31 := (cm_aI_aL _ _ _ _ _).trans (congrArg (fun z => aL z 628 w31) ((cm_aI_aL _ _ _ _ _).trans (congrArg (fun z => aL z 627 w30) ((cm_aI_aL _ _ _ _ _).trans (congrArg (fun z => aL z 626 w29) ((aI_comm _ (by decide) _ _).trans (congrArg (fun z => aI z 640 w28) ((aI_comm _ (by decide) _ _).trans (congrArg (fun z => aI z 632 w27) ((aI_comm _ (by decide) _ _).trans (congrArg (fun z => aI z 625 w26) ((aI_comm _ (by decide) _ _).trans (congrArg (fun z => aI z 624 w25) ((aI_comm _ (by decide) _ _).trans (congrArg (fun z => aI z 621 w24) ((aI_comm _ (by decide) _ _).trans (congrArg (fun z => aI z 620 w23) ((aI_comm _ (by decide) _ _).trans (congrArg (fun z => aI z 618 w22) ((aI_comm _ (by decide) _ _).trans (congrArg (fun z => aI z 617 w21) (aI_aI _ 616 _ _))))))))))))))))))))))
theorem sgM_land_aI617 {σ : Sto} {w0 : Int32} {w1 : Int32} {w2 : Int32} {w3 : Int32} {w4 : Int32} {w5 : Int32} {w6 : Int32} {w7 : Int32} {w8 : Int32} {w9 : Int32} {w10 : Int32} {w11 : Int32} {w12 : Int32} {w13 : Int32} {w14 : Int32} {w15 : Nat → Int32} {w16 : Nat → Int32} {w17 : Nat → Int32} {w18 : Nat → Int32} {w19 : Nat → Int32} {w20 : Nat → Int32} {w21 : Nat → Int32} {w22 : Nat → Int32} {w23 : Nat → Int32} {w24 : Nat → Int32} {w25 : Nat → Int32} {w26 : Nat → Int32} {w27 : Nat → Int32} {w28 : Nat → Int32} {w29 : Nat → Int64} {w30 : Nat → Int64} {w31 : Nat → Int64} {g : Nat → Int32} : aI (sgM_land σ w0 w1 w2 w3 w4 w5 w6 w7 w8 w9 w10 w11 w12 w13 w14 w15 w16 w17 w18 w19 w20 w21 w22 w23 w24 w25 w26 w27 w28 w29 w30 w31) 617 g = sgM_land σ w0 w1 w2 w3 w4 w5 w6 w7 w8 w9 w10 w11 w12 w13 w14 w15 w16 w17 w18 w19 w20 g w22 w23 w24 w25 w26 w27 w28 w29 w30 w31 := (cm_aI_aL _ _ _ _ _).trans (congrArg (fun z => aL z 628 w31) ((cm_aI_aL _ _ _ _ _).trans (congrArg (fun z => aL z 627 w30) ((cm_aI_aL _ _ _ _ _).trans (congrArg (fun z => aL z 626 w29) ((aI_comm _ (by decide) _ _).trans (congrArg (fun z => aI z 640 w28) ((aI_comm _ (by decide) _ _).trans (congrArg (fun z => aI z 632 w27) ((aI_comm _ (by decide) _ _).trans (congrArg (fun z => aI z 625 w26) ((aI_comm _ (by decide) _ _).trans (congrArg (fun z => aI z 624 w25) ((aI_comm _ (by decide) _ _).trans (congrArg (fun z => aI z 621 w24) ((aI_comm _ (by decide) _ _).trans (congrArg (fun z => aI z 620 w23) ((aI_comm _ (by decide) _ _).trans (congrArg (fun z => aI z 618 w22) (aI_aI _ 617 _ _))))))))))))))))))))
theorem sgM_land_aI618 {σ : Sto} {w0 : Int32} {w1 : Int32} {w2 : Int32} {w3 : Int32} {w4 : Int32} {w5 : Int32} {w6 : Int32} {w7 : Int32} {w8 : Int32} {w9 : Int32} {w10 : Int32} {w11 : Int32} {w12 : Int32} {w13 : Int32} {w14 : Int32} {w15 : Nat → Int32} {w16 : Nat → Int32} {w17 : Nat → Int32} {w18 : Nat → Int32} {w19 : Nat → Int32} {w20 : Nat → Int32} {w21 : Nat → Int32} {w22 : Nat → Int32} {w23 : Nat → Int32} {w24 : Nat → Int32} {w25 : Nat → Int32} {w26 : Nat → Int32} {w27 : Nat → Int32} {w28 : Nat → Int32} {w29 : Nat → Int64} {w30 : Nat → Int64} {w31 : Nat → Int64} {g : Nat → Int32} : aI (sgM_land σ w0 w1 w2 w3 w4 w5 w6 w7 w8 w9 w10 w11 w12 w13 w14 w15 w16 w17 w18 w19 w20 w21 w22 w23 w24 w25 w26 w27 w28 w29 w30 w31) 618 g = sgM_land σ w0 w1 w2 w3 w4 w5 w6 w7 w8 w9 w10 w11 w12 w13 w14 w15 w16 w17 w18 w19 w20 w21 g w23 w24 w25 w26 w27 w28 w29 w30 w31 := (cm_aI_aL _ _ _ _ _).trans (congrArg (fun z => aL z 628 w31) ((cm_aI_aL _ _ _ _ _).trans (congrArg (fun z => aL z 627 w30) ((cm_aI_aL _ _ _ _ _).trans (congrArg (fun z => aL z 626 w29) ((aI_comm _ (by decide) _ _).trans (congrArg (fun z => aI z 640 w28) ((aI_comm _ (by decide) _ _).trans (congrArg (fun z => aI z 632 w27) ((aI_comm _ (by decide) _ _).trans (congrArg (fun z => aI z 625 w26) ((aI_comm _ (by decide) _ _).trans (congrArg (fun z => aI z 624 w25) ((aI_comm _ (by decide) _ _).trans (congrArg (fun z => aI z 621 w24) ((aI_comm _ (by decide) _ _).trans (congrArg (fun z => aI z 620 w23) (aI_aI _ 618 _ _))))))))))))))))))
theorem sgM_land_aI620 {σ : Sto} {w0 : Int32} {w1 : Int32} {w2 : Int32} {w3 : Int32} {w4 : Int32} {w5 : Int32} {w6 : Int32} {w7 : Int32} {w8 : Int32} {w9 : Int32} {w10 : Int32} {w11 : Int32} {w12 : Int32} {w13 : Int32} {w14 : Int32} {w15 : Nat → Int32} {w16 : Nat → Int32} {w17 : Nat → Int32} {w18 : Nat → Int32} {w19 : Nat → Int32} {w20 : Nat → Int32} {w21 : Nat → Int32} {w22 : Nat → Int32} {w23 : Nat → Int32} {w24 : Nat → Int32} {w25 : Nat → Int32} {w26 : Nat → Int32} {w27 : Nat → Int32} {w28 : Nat → Int32} {w29 : Nat → Int64} {w30 : Nat → Int64} {w31 : Nat → Int64} {g : Nat → Int32} : aI (sgM_land σ w0 w1 w2 w3 w4 w5 w6 w7 w8 w9 w10 w11 w12 w13 w14 w15 w16 w17 w18 w19 w20 w21 w22 w23 w24 w25 w26 w27 w28 w29 w30 w31) 620 g = sgM_land σ w0 w1 w2 w3 w4 w5 w6 w7 w8 w9 w10 w11 w12 w13 w14 w15 w16 w17 w18 w19 w20 w21 w22 g w24 w25 w26 w27 w28 w29 w30 w31 := (cm_aI_aL _ _ _ _ _).trans (congrArg (fun z => aL z 628 w31) ((cm_aI_aL _ _ _ _ _).trans (congrArg (fun z => aL z 627 w30) ((cm_aI_aL _ _ _ _ _).trans (congrArg (fun z => aL z 626 w29) ((aI_comm _ (by decide) _ _).trans (congrArg (fun z => aI z 640 w28) ((aI_comm _ (by decide) _ _).trans (congrArg (fun z => aI z 632 w27) ((aI_comm _ (by decide) _ _).trans (congrArg (fun z => aI z 625 w26) ((aI_comm _ (by decide) _ _).trans (congrArg (fun z => aI z 624 w25) ((aI_comm _ (by decide) _ _).trans (congrArg (fun z => aI z 621 w24) (aI_aI _ 620 _ _))))))))))))))))
theorem sgM_land_aI621 {σ : Sto} {w0 : Int32} {w1 : Int32} {w2 : Int32} {w3 : Int32} {w4 : Int32} {w5 : Int32} {w6 : Int32} {w7 : Int32} {w8 : Int32} {w9 : Int32} {w10 : Int32} {w11 : Int32} {w12 : Int32} {w13 : Int32} {w14 : Int32} {w15 : Nat → Int32} {w16 : Nat → Int32} {w17 : Nat → Int32} {w18 : Nat → Int32} {w19 : Nat → Int32} {w20 : Nat → Int32} {w21 : Nat → Int32} {w22 : Nat → Int32} {w23 : Nat → Int32} {w24 : Nat → Int32} {w25 : Nat → Int32} {w26 : Nat → Int32} {w27 : Nat → Int32} {w28 : Nat → Int32} {w29 : Nat → Int64} {w30 : Nat → Int64} {w31 : Nat → Int64} {g : Nat → Int32} : aI (sgM_land σ w0 w1 w2 w3 w4 w5 w6 w7 w8 w9 w10 w11 w12 w13 w14 w15 w16 w17 w18 w19 w20 w21 w22 w23 w24 w25 w26 w27 w28 w29 w30 w31) 621 g = sgM_land σ w0 w1 w2 w3 w4 w5 w6 w7 w8 w9 w10 w11 w12 w13 w14 w15 w16 w17 w18 w19 w20 w21 w22 w23 g w25 w26 w27 w28 w29 w30 w31 := (cm_aI_aL _ _ _ _ _).trans (congrArg (fun z => aL z 628 w31) ((cm_aI_aL _ _ _ _ _).trans (congrArg (fun z => aL z 627 w30) ((cm_aI_aL _ _ _ _ _).trans (congrArg (fun z => aL z 626 w29) ((aI_comm _ (by decide) _ _).trans (congrArg (fun z => aI z 640 w28) ((aI_comm _ (by decide) _ _).trans (congrArg (fun z => aI z 632 w27) ((aI_comm _ (by decide) _ _).trans (congrArg (fun z => aI z 625 w26) ((aI_comm _ (by decide) _ _).trans (congrArg (fun z => aI z 624 w25) (aI_aI _ 621 _ _))))))))))))))
theorem sgM_land_aI624 {σ : Sto} {w0 : Int32} {w1 : Int32} {w2 : Int32} {w3 : Int32} {w4 : Int32} {w5 : Int32} {w6 : Int32} {w7 : Int32} {w8 : Int32} {w9 : Int32} {w10 : Int32} {w11 : Int32} {w12 : Int32} {w13 : Int32} {w14 : Int32} {w15 : Nat → Int32} {w16 : Nat → Int32} {w17 : Nat → Int32} {w18 : Nat → Int32} {w19 : Nat → Int32} {w20 : Nat → Int32} {w21 : Nat → Int32} {w22 : Nat → Int32} {w23 : Nat → Int32} {w24 : Nat → Int32} {w25 : Nat → Int32} {w26 : Nat → Int32} {w27 : Nat → Int32} {w28 : Nat → Int32} {w29 : Nat → Int64} {w30 : Nat → Int64} {w31 : Nat → Int64} {g : Nat → Int32} : aI (sgM_land σ w0 w1 w2 w3 w4 w5 w6 w7 w8 w9 w10 w11 w12 w13 w14 w15 w16 w17 w18 w19 w20 w21 w22 w23 w24 w25 w26 w27 w28 w29 w30 w31) 624 g = sgM_land σ w0 w1 w2 w3 w4 w5 w6 w7 w8 w9 w10 w11 w12 w13 w14 w15 w16 w17 w18 w19 w20 w21 w22 w23 w24 g w26 w27 w28 w29 w30 w31 := (cm_aI_aL _ _ _ _ _).trans (congrArg (fun z => aL z 628 w31) ((cm_aI_aL _ _ _ _ _).trans (congrArg (fun z => aL z 627 w30) ((cm_aI_aL _ _ _ _ _).trans (congrArg (fun z => aL z 626 w29) ((aI_comm _ (by decide) _ _).trans (congrArg (fun z => aI z 640 w28) ((aI_comm _ (by decide) _ _).trans (congrArg (fun z => aI z 632 w27) ((aI_comm _ (by decide) _ _).trans (congrArg (fun z => aI z 625 w26) (aI_aI _ 624 _ _))))))))))))
theorem sgM_land_aI625 {σ : Sto} {w0 : Int32} {w1 : Int32} {w2 : Int32} {w3 : Int32} {w4 : Int32} {w5 : Int32} {w6 : Int32} {w7 : Int32} {w8 : Int32} {w9 : Int32} {w10 : Int32} {w11 : Int32} {w12 : Int32} {w13 : Int32} {w14 : Int32} {w15 : Nat → Int32} {w16 : Nat → Int32} {w17 : Nat → Int32} {w18 : Nat → Int32} {w19 : Nat → Int32} {w20 : Nat → Int32} {w21 : Nat → Int32} {w22 : Nat → Int32} {w23 : Nat → Int32} {w24 : Nat → Int32} {w25 : Nat → Int32} {w26 : Nat → Int32} {w27 : Nat → Int32} {w28 : Nat → Int32} {w29 : Nat → Int64} {w30 : Nat → Int64} {w31 : Nat → Int64} {g : Nat → Int32} : aI (sgM_land σ w0 w1 w2 w3 w4 w5 w6 w7 w8 w9 w10 w11 w12 w13 w14 w15 w16 w17 w18 w19 w20 w21 w22 w23 w24 w25 w26 w27 w28 w29 w30 w31) 625 g = sgM_land σ w0 w1 w2 w3 w4 w5 w6 w7 w8 w9 w10 w11 w12 w13 w14 w15 w16 w17 w18 w19 w20 w21 w22 w23 w24 w25 g w27 w28 w29 w30 w31 := (cm_aI_aL _ _ _ _ _).trans (congrArg (fun z => aL z 628 w31) ((cm_aI_aL _ _ _ _ _).trans (congrArg (fun z => aL z 627 w30) ((cm_aI_aL _ _ _ _ _).trans (congrArg (fun z => aL z 626 w29) ((aI_comm _ (by decide) _ _).trans (congrArg (fun z => aI z 640 w28) ((aI_comm _ (by decide) _ _).trans (congrArg (fun z => aI z 632 w27) (aI_aI _ 625 _ _))))))))))
theorem sgM_land_aI632 {σ : Sto} {w0 : Int32} {w1 : Int32} {w2 : Int32} {w3 : Int32} {w4 : Int32} {w5 : Int32} {w6 : Int32} {w7 : Int32} {w8 : Int32} {w9 : Int32} {w10 : Int32} {w11 : Int32} {w12 : Int32} {w13 : Int32} {w14 : Int32} {w15 : Nat → Int32} {w16 : Nat → Int32} {w17 : Nat → Int32} {w18 : Nat → Int32} {w19 : Nat → Int32} {w20 : Nat → Int32} {w21 : Nat → Int32} {w22 : Nat → Int32} {w23 : Nat → Int32} {w24 : Nat → Int32} {w25 : Nat → Int32} {w26 : Nat → Int32} {w27 : Nat → Int32} {w28 : Nat → Int32} {w29 : Nat → Int64} {w30 : Nat → Int64} {w31 : Nat → Int64} {g : Nat → Int32} : aI (sgM_land σ w0 w1 w2 w3 w4 w5 w6 w7 w8 w9 w10 w11 w12 w13 w14 w15 w16 w17 w18 w19 w20 w21 w22 w23 w24 w25 w26 w27 w28 w29 w30 w31) 632 g = sgM_land σ w0 w1 w2 w3 w4 w5 w6 w7 w8 w9 w10 w11 w12 w13 w14 w15 w16 w17 w18 w19 w20 w21 w22 w23 w24 w25 w26 g w28 w29 w30 w31 := (cm_aI_aL _ _ _ _ _).trans (congrArg (fun z => aL z 628 w31) ((cm_aI_aL _ _ _ _ _).trans (congrArg (fun z => aL z 627 w30) ((cm_aI_aL _ _ _ _ _).trans (congrArg (fun z => aL z 626 w29) ((aI_comm _ (by decide) _ _).trans (congrArg (fun z => aI z 640 w28) (aI_aI _ 632 _ _))))))))
theorem sgM_land_aI640 {σ : Sto} {w0 : Int32} {w1 : Int32} {w2 : Int32} {w3 : Int32} {w4 : Int32} {w5 : Int32} {w6 : Int32} {w7 : Int32} {w8 : Int32} {w9 : Int32} {w10 : Int32} {w11 : Int32} {w12 : Int32} {w13 : Int32} {w14 : Int32} {w15 : Nat → Int32} {w16 : Nat → Int32} {w17 : Nat → Int32} {w18 : Nat → Int32} {w19 : Nat → Int32} {w20 : Nat → Int32} {w21 : Nat → Int32} {w22 : Nat → Int32} {w23 : Nat → Int32} {w24 : Nat → Int32} {w25 : Nat → Int32} {w26 : Nat → Int32} {w27 : Nat → Int32} {w28 : Nat → Int32} {w29 : Nat → Int64} {w30 : Nat → Int64} {w31 : Nat → Int64} {g : Nat → Int32} : aI (sgM_land σ w0 w1 w2 w3 w4 w5 w6 w7 w8 w9 w10 w11 w12 w13 w14 w15 w16 w17 w18 w19 w20 w21 w22 w23 w24 w25 w26 w27 w28 w29 w30 w31) 640 g = sgM_land σ w0 w1 w2 w3 w4 w5 w6 w7 w8 w9 w10 w11 w12 w13 w14 w15 w16 w17 w18 w19 w20 w21 w22 w23 w24 w25 w26 w27 g w29 w30 w31 := (cm_aI_aL _ _ _ _ _).trans (congrArg (fun z => aL z 628 w31) ((cm_aI_aL _ _ _ _ _).trans (congrArg (fun z => aL z 627 w30) ((cm_aI_aL _ _ _ _ _).trans (congrArg (fun z => aL z 626 w29) (aI_aI _ 640 _ _))))))
theorem sgM_land_aL626 {σ : Sto} {w0 : Int32} {w1 : Int32} {w2 : Int32} {w3 : Int32} {w4 : Int32} {w5 : Int32} {w6 : Int32} {w7 : Int32} {w8 : Int32} {w9 : Int32} {w10 : Int32} {w11 : Int32} {w12 : Int32} {w13 : Int32} {w14 : Int32} {w15 : Nat → Int32} {w16 : Nat → Int32} {w17 : Nat → Int32} {w18 : Nat → Int32} {w19 : Nat → Int32} {w20 : Nat → Int32} {w21 : Nat → Int32} {w22 : Nat → Int32} {w23 : Nat → Int32} {w24 : Nat → Int32} {w25 : Nat → Int32} {w26 : Nat → Int32} {w27 : Nat → Int32} {w28 : Nat → Int32} {w29 : Nat → Int64} {w30 : Nat → Int64} {w31 : Nat → Int64} {g : Nat → Int64} : aL (sgM_land σ w0 w1 w2 w3 w4 w5 w6 w7 w8 w9 w10 w11 w12 w13 w14 w15 w16 w17 w18 w19 w20 w21 w22 w23 w24 w25 w26 w27 w28 w29 w30 w31) 626 g = sgM_land σ w0 w1 w2 w3 w4 w5 w6 w7 w8 w9 w10 w11 w12 w13 w14 w15 w16 w17 w18 w19 w20 w21 w22 w23 w24 w25 w26 w27 w28 g w30 w31 := (aL_comm _ (by decide) _ _).trans (congrArg (fun z => aL z 628 w31) ((aL_comm _ (by decide) _ _).trans (congrArg (fun z => aL z 627 w30) (aL_aL _ 626 _ _))))
theorem sgM_land_aL627 {σ : Sto} {w0 : Int32} {w1 : Int32} {w2 : Int32} {w3 : Int32} {w4 : Int32} {w5 : Int32} {w6 : Int32} {w7 : Int32} {w8 : Int32} {w9 : Int32} {w10 : Int32} {w11 : Int32} {w12 : Int32} {w13 : Int32} {w14 : Int32} {w15 : Nat → Int32} {w16 : Nat → Int32} {w17 : Nat → Int32} {w18 : Nat → Int32} {w19 : Nat → Int32} {w20 : Nat → Int32} {w21 : Nat → Int32} {w22 : Nat → Int32} {w23 : Nat → Int32} {w24 : Nat → Int32} {w25 : Nat → Int32} {w26 : Nat → Int32} {w27 : Nat → Int32} {w28 : Nat → Int32} {w29 : Nat → Int64} {w30 : Nat → Int64} {w31 : Nat → Int64} {g : Nat → Int64} : aL (sgM_land σ w0 w1 w2 w3 w4 w5 w6 w7 w8 w9 w10 w11 w12 w13 w14 w15 w16 w17 w18 w19 w20 w21 w22 w23 w24 w25 w26 w27 w28 w29 w30 w31) 627 g = sgM_land σ w0 w1 w2 w3 w4 w5 w6 w7 w8 w9 w10 w11 w12 w13 w14 w15 w16 w17 w18 w19 w20 w21 w22 w23 w24 w25 w26 w27 w28 w29 g w31 := (aL_comm _ (by decide) _ _).trans (congrArg (fun z => aL z 628 w31) (aL_aL _ 627 _ _))
theorem sgM_land_aL628 {σ : Sto} {w0 : Int32} {w1 : Int32} {w2 : Int32} {w3 : Int32} {w4 : Int32} {w5 : Int32} {w6 : Int32} {w7 : Int32} {w8 : Int32} {w9 : Int32} {w10 : Int32} {w11 : Int32} {w12 : Int32} {w13 : Int32} {w14 : Int32} {w15 : Nat → Int32} {w16 : Nat → Int32} {w17 : Nat → Int32} {w18 : Nat → Int32} {w19 : Nat → Int32} {w20 : Nat → Int32} {w21 : Nat → Int32} {w22 : Nat → Int32} {w23 : Nat → Int32} {w24 : Nat → Int32} {w25 : Nat → Int32} {w26 : Nat → Int32} {w27 : Nat → Int32} {w28 : Nat → Int32} {w29 : Nat → Int64} {w30 : Nat → Int64} {w31 : Nat → Int64} {g : Nat → Int64} : aL (sgM_land σ w0 w1 w2 w3 w4 w5 w6 w7 w8 w9 w10 w11 w12 w13 w14 w15 w16 w17 w18 w19 w20 w21 w22 w23 w24 w25 w26 w27 w28 w29 w30 w31) 628 g = sgM_land σ w0 w1 w2 w3 w4 w5 w6 w7 w8 w9 w10 w11 w12 w13 w14 w15 w16 w17 w18 w19 w20 w21 w22 w23 w24 w25 w26 w27 w28 w29 w30 g := aL_aL _ 628 _ _
theorem sgM_land_rzI501 {σ : Sto} {w0 : Int32} {w1 : Int32} {w2 : Int32} {w3 : Int32} {w4 : Int32} {w5 : Int32} {w6 : Int32} {w7 : Int32} {w8 : Int32} {w9 : Int32} {w10 : Int32} {w11 : Int32} {w12 : Int32} {w13 : Int32} {w14 : Int32} {w15 : Nat → Int32} {w16 : Nat → Int32} {w17 : Nat → Int32} {w18 : Nat → Int32} {w19 : Nat → Int32} {w20 : Nat → Int32} {w21 : Nat → Int32} {w22 : Nat → Int32} {w23 : Nat → Int32} {w24 : Nat → Int32} {w25 : Nat → Int32} {w26 : Nat → Int32} {w27 : Nat → Int32} {w28 : Nat → Int32} {w29 : Nat → Int64} {w30 : Nat → Int64} {w31 : Nat → Int64} : (sgM_land σ w0 w1 w2 w3 w4 w5 w6 w7 w8 w9 w10 w11 w12 w13 w14 w15 w16 w17 w18 w19 w20 w21 w22 w23 w24 w25 w26 w27 w28 w29 w30 w31).1 501 = w0 := rfl
theorem sgM_land_rzI502 {σ : Sto} {w0 : Int32} {w1 : Int32} {w2 : Int32} {w3 : Int32} {w4 : Int32} {w5 : Int32} {w6 : Int32} {w7 : Int32} {w8 : Int32} {w9 : Int32} {w10 : Int32} {w11 : Int32} {w12 : Int32} {w13 : Int32} {w14 : Int32} {w15 : Nat → Int32} {w16 : Nat → Int32} {w17 : Nat → Int32} {w18 : Nat → Int32} {w19 : Nat → Int32} {w20 : Nat → Int32} {w21 : Nat → Int32} {w22 : Nat → Int32} {w23 : Nat → Int32} {w24 : Nat → Int32} {w25 : Nat → Int32} {w26 : Nat → Int32} {w27 : Nat → Int32} {w28 : Nat → Int32} {w29 : Nat → Int64} {w30 : Nat → Int64} {w31 : Nat → Int64} : (sgM_land σ w0 w1 w2 w3 w4 w5 w6 w7 w8 w9 w10 w11 w12 w13 w14 w15 w16 w17 w18 w19 w20 w21 w22 w23 w24 w25 w26 w27 w28 w29 w30 w31).1 502 = w1 := rfl
theorem sgM_land_rzI504 {σ : Sto} {w0 : Int32} {w1 : Int32} {w2 : Int32} {w3 : Int32} {w4 : Int32} {w5 : Int32} {w6 : Int32} {w7 : Int32} {w8 : Int32} {w9 : Int32} {w10 : Int32} {w11 : Int32} {w12 : Int32} {w13 : Int32} {w14 : Int32} {w15 : Nat → Int32} {w16 : Nat → Int32} {w17 : Nat → Int32} {w18 : Nat → Int32} {w19 : Nat → Int32} {w20 : Nat → Int32} {w21 : Nat → Int32} {w22 : Nat → Int32} {w23 : Nat → Int32} {w24 : Nat → Int32} {w25 : Nat → Int32} {w26 : Nat → Int32} {w27 : Nat → Int32} {w28 : Nat → Int32} {w29 : Nat → Int64} {w30 : Nat → Int64} {w31 : Nat → Int64} : (sgM_land σ w0 w1 w2 w3 w4 w5 w6 w7 w8 w9 w10 w11 w12 w13 w14 w15 w16 w17 w18 w19 w20 w21 w22 w23 w24 w25 w26 w27 w28 w29 w30 w31).1 504 = w2 := rfl
theorem sgM_land_rzI505 {σ : Sto} {w0 : Int32} {w1 : Int32} {w2 : Int32} {w3 : Int32} {w4 : Int32} {w5 : Int32} {w6 : Int32} {w7 : Int32} {w8 : Int32} {w9 : Int32} {w10 : Int32} {w11 : Int32} {w12 : Int32} {w13 : Int32} {w14 : Int32} {w15 : Nat → Int32} {w16 : Nat → Int32} {w17 : Nat → Int32} {w18 : Nat → Int32} {w19 : Nat → Int32} {w20 : Nat → Int32} {w21 : Nat → Int32} {w22 : Nat → Int32} {w23 : Nat → Int32} {w24 : Nat → Int32} {w25 : Nat → Int32} {w26 : Nat → Int32} {w27 : Nat → Int32} {w28 : Nat → Int32} {w29 : Nat → Int64} {w30 : Nat → Int64} {w31 : Nat → Int64} : (sgM_land σ w0 w1 w2 w3 w4 w5 w6 w7 w8 w9 w10 w11 w12 w13 w14 w15 w16 w17 w18 w19 w20 w21 w22 w23 w24 w25 w26 w27 w28 w29 w30 w31).1 505 = w3 := rfl
theorem sgM_land_rzI506 {σ : Sto} {w0 : Int32} {w1 : Int32} {w2 : Int32} {w3 : Int32} {w4 : Int32} {w5 : Int32} {w6 : Int32} {w7 : Int32} {w8 : Int32} {w9 : Int32} {w10 : Int32} {w11 : Int32} {w12 : Int32} {w13 : Int32} {w14 : Int32} {w15 : Nat → Int32} {w16 : Nat → Int32} {w17 : Nat → Int32} {w18 : Nat → Int32} {w19 : Nat → Int32} {w20 : Nat → Int32} {w21 : Nat → Int32} {w22 : Nat → Int32} {w23 : Nat → Int32} {w24 : Nat → Int32} {w25 : Nat → Int32} {w26 : Nat → Int32} {w27 : Nat → Int32} {w28 : Nat → Int32} {w29 : Nat → Int64} {w30 : Nat → Int64} {w31 : Nat → Int64} : (sgM_land σ w0 w1 w2 w3 w4 w5 w6 w7 w8 w9 w10 w11 w12 w13 w14 w15 w16 w17 w18 w19 w20 w21 w22 w23 w24 w25 w26 w27 w28 w29 w30 w31).1 506 = w4 := rfl
theorem sgM_land_rzI507 {σ : Sto} {w0 : Int32} {w1 : Int32} {w2 : Int32} {w3 : Int32} {w4 : Int32} {w5 : Int32} {w6 : Int32} {w7 : Int32} {w8 : Int32} {w9 : Int32} {w10 : Int32} {w11 : Int32} {w12 : Int32} {w13 : Int32} {w14 : Int32} {w15 : Nat → Int32} {w16 : Nat → Int32} {w17 : Nat → Int32} {w18 : Nat → Int32} {w19 : Nat → Int32} {w20 : Nat → Int32} {w21 : Nat → Int32} {w22 : Nat → Int32} {w23 : Nat → Int32} {w24 : Nat → Int32} {w25 : Nat → Int32} {w26 : Nat → Int32} {w27 : Nat → Int32} {w28 : Nat → Int32} {w29 : Nat → Int64} {w30 : Nat → Int64} {w31 : Nat → Int64} : (sgM_land σ w0 w1 w2 w3 w4 w5 w6 w7 w8 w9 w10 w11 w12 w13 w14 w15 w16 w17 w18 w19 w20 w21 w22 w23 w24 w25 w26 w27 w28 w29 w30 w31).1 507 = w5 := rfl
theorem sgM_land_rzI508 {σ : Sto} {w0 : Int32} {w1 : Int32} {w2 : Int32} {w3 : Int32} {w4 : Int32} {w5 : Int32} {w6 : Int32} {w7 : Int32} {w8 : Int32} {w9 : Int32} {w10 : Int32} {w11 : Int32} {w12 : Int32} {w13 : Int32} {w14 : Int32} {w15 : Nat → Int32} {w16 : Nat → Int32} {w17 : Nat → Int32} {w18 : Nat → Int32} {w19 : Nat → Int32} {w20 : Nat → Int32} {w21 : Nat → Int32} {w22 : Nat → Int32} {w23 : Nat → Int32} {w24 : Nat → Int32} {w25 : Nat → Int32} {w26 : Nat → Int32} {w27 : Nat → Int32} {w28 : Nat → Int32} {w29 : Nat → Int64} {w30 : Nat → Int64} {w31 : Nat → Int64} : (sgM_land σ w0 w1 w2 w3 w4 w5 w6 w7 w8 w9 w10 w11 w12 w13 w14 w15 w16 w17 w18 w19 w20 w21 w22 w23 w24 w25 w26 w27 w28 w29 w30 w31).1 508 = w6 := rfl
theorem sgM_land_rzI509 {σ : Sto} {w0 : Int32} {w1 : Int32} {w2 : Int32} {w3 : Int32} {w4 : Int32} {w5 : Int32} {w6 : Int32} {w7 : Int32} {w8 : Int32} {w9 : Int32} {w10 : Int32} {w11 : Int32} {w12 : Int32} {w13 : Int32} {w14 : Int32} {w15 : Nat → Int32} {w16 : Nat → Int32} {w17 : Nat → Int32} {w18 : Nat → Int32} {w19 : Nat → Int32} {w20 : Nat → Int32} {w21 : Nat → Int32} {w22 : Nat → Int32} {w23 : Nat → Int32} {w24 : Nat → Int32} {w25 : Nat → Int32} {w26 : Nat → Int32} {w27 : Nat → Int32} {w28 : Nat → Int32} {w29 : Nat → Int64} {w30 : Nat → Int64} {w31 : Nat → Int64} : (sgM_land σ w0 w1 w2 w3 w4 w5 w6 w7 w8 w9 w10 w11 w12 w13 w14 w15 w16 w17 w18 w19 w20 w21 w22 w23 w24 w25 w26 w27 w28 w29 w30 w31).1 509 = w7 := rfl
theorem sgM_land_rzI510 {σ : Sto} {w0 : Int32} {w1 : Int32} {w2 : Int32} {w3 : Int32} {w4 : Int32} {w5 : Int32} {w6 : Int32} {w7 : Int32} {w8 : Int32} {w9 : Int32} {w10 : Int32} {w11 : Int32} {w12 : Int32} {w13 : Int32} {w14 : Int32} {w15 : Nat → Int32} {w16 : Nat → Int32} {w17 : Nat → Int32} {w18 : Nat → Int32} {w19 : Nat → Int32} {w20 : Nat → Int32} {w21 : Nat → Int32} {w22 : Nat → Int32} {w23 : Nat → Int32} {w24 : Nat → Int32} {w25 : Nat → Int32} {w26 : Nat → Int32} {w27 : Nat → Int32} {w28 : Nat → Int32} {w29 : Nat → Int64} {w30 : Nat → Int64} {w31 : Nat → Int64} : (sgM_land σ w0 w1 w2 w3 w4 w5 w6 w7 w8 w9 w10 w11 w12 w13 w14 w15 w16 w17 w18 w19 w20 w21 w22 w23 w24 w25 w26 w27 w28 w29 w30 w31).1 510 = w8 := rfl
theorem sgM_land_rzI519 {σ : Sto} {w0 : Int32} {w1 : Int32} {w2 : Int32} {w3 : Int32} {w4 : Int32} {w5 : Int32} {w6 : Int32} {w7 : Int32} {w8 : Int32} {w9 : Int32} {w10 : Int32} {w11 : Int32} {w12 : Int32} {w13 : Int32} {w14 : Int32} {w15 : Nat → Int32} {w16 : Nat → Int32} {w17 : Nat → Int32} {w18 : Nat → Int32} {w19 : Nat → Int32} {w20 : Nat → Int32} {w21 : Nat → Int32} {w22 : Nat → Int32} {w23 : Nat → Int32} {w24 : Nat → Int32} {w25 : Nat → Int32} {w26 : Nat → Int32} {w27 : Nat → Int32} {w28 : Nat → Int32} {w29 : Nat → Int64} {w30 : Nat → Int64} {w31 : Nat → Int64} : (sgM_land σ w0 w1 w2 w3 w4 w5 w6 w7 w8 w9 w10 w11 w12 w13 w14 w15 w16 w17 w18 w19 w20 w21 w22 w23 w24 w25 w26 w27 w28 w29 w30 w31).1 519 = w9 := rfl
theorem sgM_land_rzI522 {σ : Sto} {w0 : Int32} {w1 : Int32} {w2 : Int32} {w3 : Int32} {w4 : Int32} {w5 : Int32} {w6 : Int32} {w7 : Int32} {w8 : Int32} {w9 : Int32} {w10 : Int32} {w11 : Int32} {w12 : Int32} {w13 : Int32} {w14 : Int32} {w15 : Nat → Int32} {w16 : Nat → Int32} {w17 : Nat → Int32} {w18 : Nat → Int32} {w19 : Nat → Int32} {w20 : Nat → Int32} {w21 : Nat → Int32} {w22 : Nat → Int32} {w23 : Nat → Int32} {w24 : Nat → Int32} {w25 : Nat → Int32} {w26 : Nat → Int32} {w27 : Nat → Int32} {w28 : Nat → Int32} {w29 : Nat → Int64} {w30 : Nat → Int64} {w31 : Nat → Int64} : (sgM_land σ w0 w1 w2 w3 w4 w5 w6 w7 w8 w9 w10 w11 w12 w13 w14 w15 w16 w17 w18 w19 w20 w21 w22 w23 w24 w25 w26 w27 w28 w29 w30 w31).1 522 = w10 := rfl
theorem sgM_land_rzI523 {σ : Sto} {w0 : Int32} {w1 : Int32} {w2 : Int32} {w3 : Int32} {w4 : Int32} {w5 : Int32} {w6 : Int32} {w7 : Int32} {w8 : Int32} {w9 : Int32} {w10 : Int32} {w11 : Int32} {w12 : Int32} {w13 : Int32} {w14 : Int32} {w15 : Nat → Int32} {w16 : Nat → Int32} {w17 : Nat → Int32} {w18 : Nat → Int32} {w19 : Nat → Int32} {w20 : Nat → Int32} {w21 : Nat → Int32} {w22 : Nat → Int32} {w23 : Nat → Int32} {w24 : Nat → Int32} {w25 : Nat → Int32} {w26 : Nat → Int32} {w27 : Nat → Int32} {w28 : Nat → Int32} {w29 : Nat → Int64} {w30 : Nat → Int64} {w31 : Nat → Int64} : (sgM_land σ w0 w1 w2 w3 w4 w5 w6 w7 w8 w9 w10 w11 w12 w13 w14 w15 w16 w17 w18 w19 w20 w21 w22 w23 w24 w25 w26 w27 w28 w29 w30 w31).1 523 = w11 := rfl
theorem sgM_land_rzI541 {σ : Sto} {w0 : Int32} {w1 : Int32} {w2 : Int32} {w3 : Int32} {w4 : Int32} {w5 : Int32} {w6 : Int32} {w7 : Int32} {w8 : Int32} {w9 : Int32} {w10 : Int32} {w11 : Int32} {w12 : Int32} {w13 : Int32} {w14 : Int32} {w15 : Nat → Int32} {w16 : Nat → Int32} {w17 : Nat → Int32} {w18 : Nat → Int32} {w19 : Nat → Int32} {w20 : Nat → Int32} {w21 : Nat → Int32} {w22 : Nat → Int32} {w23 : Nat → Int32} {w24 : Nat → Int32} {w25 : Nat → Int32} {w26 : Nat → Int32} {w27 : Nat → Int32} {w28 : Nat → Int32} {w29 : Nat → Int64} {w30 : Nat → Int64} {w31 : Nat → Int64} : (sgM_land σ w0 w1 w2 w3 w4 w5 w6 w7 w8 w9 w10 w11 w12 w13 w14 w15 w16 w17 w18 w19 w20 w21 w22 w23 w24 w25 w26 w27 w28 w29 w30 w31).1 541 = w12 := rfl
theorem sgM_land_rzI543 {σ : Sto} {w0 : Int32} {w1 : Int32} {w2 : Int32} {w3 : Int32} {w4 : Int32} {w5 : Int32} {w6 : Int32} {w7 : Int32} {w8 : Int32} {w9 : Int32} {w10 : Int32} {w11 : Int32} {w12 : Int32} {w13 : Int32} {w14 : Int32} {w15 : Nat → Int32} {w16 : Nat → Int32} {w17 : Nat → Int32} {w18 : Nat → Int32} {w19 : Nat → Int32} {w20 : Nat → Int32} {w21 : Nat → Int32} {w22 : Nat → Int32} {w23 : Nat → Int32} {w24 : Nat → Int32} {w25 : Nat → Int32} {w26 : Nat → Int32} {w27 : Nat → Int32} {w28 : Nat → Int32} {w29 : Nat → Int64} {w30 : Nat → Int64} {w31 : Nat → Int64} : (sgM_land σ w0 w1 w2 w3 w4 w5 w6 w7 w8 w9 w10 w11 w12 w13 w14 w15 w16 w17 w18 w19 w20 w21 w22 w23 w24 w25 w26 w27 w28 w29 w30 w31).1 543 = w13 := rfl
theorem sgM_land_rzI554 {σ : Sto} {w0 : Int32} {w1 : Int32} {w2 : Int32} {w3 : Int32} {w4 : Int32} {w5 : Int32} {w6 : Int32} {w7 : Int32} {w8 : Int32} {w9 : Int32} {w10 : Int32} {w11 : Int32} {w12 : Int32} {w13 : Int32} {w14 : Int32} {w15 : Nat → Int32} {w16 : Nat → Int32} {w17 : Nat → Int32} {w18 : Nat → Int32} {w19 : Nat → Int32} {w20 : Nat → Int32} {w21 : Nat → Int32} {w22 : Nat → Int32} {w23 : Nat → Int32} {w24 : Nat → Int32} {w25 : Nat → Int32} {w26 : Nat → Int32} {w27 : Nat → Int32} {w28 : Nat → Int32} {w29 : Nat → Int64} {w30 : Nat → Int64} {w31 : Nat → Int64} : (sgM_land σ w0 w1 w2 w3 w4 w5 w6 w7 w8 w9 w10 w11 w12 w13 w14 w15 w16 w17 w18 w19 w20 w21 w22 w23 w24 w25 w26 w27 w28 w29 w30 w31).1 554 = w14 := rfl
theorem sgM_land_raI600 {σ : Sto} {w0 : Int32} {w1 : Int32} {w2 : Int32} {w3 : Int32} {w4 : Int32} {w5 : Int32} {w6 : Int32} {w7 : Int32} {w8 : Int32} {w9 : Int32} {w10 : Int32} {w11 : Int32} {w12 : Int32} {w13 : Int32} {w14 : Int32} {w15 : Nat → Int32} {w16 : Nat → Int32} {w17 : Nat → Int32} {w18 : Nat → Int32} {w19 : Nat → Int32} {w20 : Nat → Int32} {w21 : Nat → Int32} {w22 : Nat → Int32} {w23 : Nat → Int32} {w24 : Nat → Int32} {w25 : Nat → Int32} {w26 : Nat → Int32} {w27 : Nat → Int32} {w28 : Nat → Int32} {w29 : Nat → Int64} {w30 : Nat → Int64} {w31 : Nat → Int64} : (sgM_land σ w0 w1 w2 w3 w4 w5 w6 w7 w8 w9 w10 w11 w12 w13 w14 w15 w16 w17 w18 w19 w20 w21 w22 w23 w24 w25 w26 w27 w28 w29 w30 w31).2.2.1 600 = σ.2.2.1 600 := rfl
theorem sgM_land_raI603 {σ : Sto} {w0 : Int32} {w1 : Int32} {w2 : Int32} {w3 : Int32} {w4 : Int32} {w5 : Int32} {w6 : Int32} {w7 : Int32} {w8 : Int32} {w9 : Int32} {w10 : Int32} {w11 : Int32} {w12 : Int32} {w13 : Int32} {w14 : Int32} {w15 : Nat → Int32} {w16 : Nat → Int32} {w17 : Nat → Int32} {w18 : Nat → Int32} {w19 : Nat → Int32} {w20 : Nat → Int32} {w21 : Nat → Int32} {w22 : Nat → Int32} {w23 : Nat → Int32} {w24 : Nat → Int32} {w25 : Nat → Int32} {w26 : Nat → Int32} {w27 : Nat → Int32} {w28 : Nat → Int32} {w29 : Nat → Int64} {w30 : Nat → Int64} {w31 : Nat → Int64} : (sgM_land σ w0 w1 w2 w3 w4 w5 w6 w7 w8 w9 w10 w11 w12 w13 w14 w15 w16 w17 w18 w19 w20 w21 w22 w23 w24 w25 w26 w27 w28 w29 w30 w31).2.2.1 603 = σ.2.2.1 603 := rfl
theorem sgM_land_raI611 {σ : Sto} {w0 : Int32} {w1 : Int32} {w2 : Int32} {w3 : Int32} {w4 : Int32} {w5 : Int32} {w6 : Int32} {w7 : Int32} {w8 : Int32} {w9 : Int32} {w10 : Int32} {w11 : Int32} {w12 : Int32} {w13 : Int32} {w14 : Int32} {w15 : Nat → Int32} {w16 : Nat → Int32} {w17 : Nat → Int32} {w18 : Nat → Int32} {w19 : Nat → Int32} {w20 : Nat → Int32} {w21 : Nat → Int32} {w22 : Nat → Int32} {w23 : Nat → Int32} {w24 : Nat → Int32} {w25 : Nat → Int32} {w26 : Nat → Int32} {w27 : Nat → Int32} {w28 : Nat → Int32} {w29 : Nat → Int64} {w30 : Nat → Int64} {w31 : Nat → Int64} : (sgM_land σ w0 w1 w2 w3 w4 w5 w6 w7 w8 w9 w10 w11 w12 w13 w14 w15 w16 w17 w18 w19 w20 w21 w22 w23 w24 w25 w26 w27 w28 w29 w30 w31).2.2.1 611 = w15 := rfl
theorem sgM_land_raI612 {σ : Sto} {w0 : Int32} {w1 : Int32} {w2 : Int32} {w3 : Int32} {w4 : Int32} {w5 : Int32} {w6 : Int32} {w7 : Int32} {w8 : Int32} {w9 : Int32} {w10 : Int32} {w11 : Int32} {w12 : Int32} {w13 : Int32} {w14 : Int32} {w15 : Nat → Int32} {w16 : Nat → Int32} {w17 : Nat → Int32} {w18 : Nat → Int32} {w19 : Nat → Int32} {w20 : Nat → Int32} {w21 : Nat → Int32} {w22 : Nat → Int32} {w23 : Nat → Int32} {w24 : Nat → Int32} {w25 : Nat → Int32} {w26 : Nat → Int32} {w27 : Nat → Int32} {w28 : Nat → Int32} {w29 : Nat → Int64} {w30 : Nat → Int64} {w31 : Nat → Int64} : (sgM_land σ w0 w1 w2 w3 w4 w5 w6 w7 w8 w9 w10 w11 w12 w13 w14 w15 w16 w17 w18 w19 w20 w21 w22 w23 w24 w25 w26 w27 w28 w29 w30 w31).2.2.1 612 = w16 := rfl
theorem sgM_land_raI613 {σ : Sto} {w0 : Int32} {w1 : Int32} {w2 : Int32} {w3 : Int32} {w4 : Int32} {w5 : Int32} {w6 : Int32} {w7 : Int32} {w8 : Int32} {w9 : Int32} {w10 : Int32} {w11 : Int32} {w12 : Int32} {w13 : Int32} {w14 : Int32} {w15 : Nat → Int32} {w16 : Nat → Int32} {w17 : Nat → Int32} {w18 : Nat → Int32} {w19 : Nat → Int32} {w20 : Nat → Int32} {w21 : Nat → Int32} {w22 : Nat → Int32} {w23 : Nat → Int32} {w24 : Nat → Int32} {w25 : Nat → Int32} {w26 : Nat → Int32} {w27 : Nat → Int32} {w28 : Nat → Int32} {w29 : Nat → Int64} {w30 : Nat → Int64} {w31 : Nat → Int64} : (sgM_land σ w0 w1 w2 w3 w4 w5 w6 w7 w8 w9 w10 w11 w12 w13 w14 w15 w16 w17 w18 w19 w20 w21 w22 w23 w24 w25 w26 w27 w28 w29 w30 w31).2.2.1 613 = w17 := rfl
theorem sgM_land_raI614 {σ : Sto} {w0 : Int32} {w1 : Int32} {w2 : Int32} {w3 : Int32} {w4 : Int32} {w5 : Int32} {w6 : Int32} {w7 : Int32} {w8 : Int32} {w9 : Int32} {w10 : Int32} {w11 : Int32} {w12 : Int32} {w13 : Int32} {w14 : Int32} {w15 : Nat → Int32} {w16 : Nat → Int32} {w17 : Nat → Int32} {w18 : Nat → Int32} {w19 : Nat → Int32} {w20 : Nat → Int32} {w21 : Nat → Int32} {w22 : Nat → Int32} {w23 : Nat → Int32} {w24 : Nat → Int32} {w25 : Nat → Int32} {w26 : Nat → Int32} {w27 : Nat → Int32} {w28 : Nat → Int32} {w29 : Nat → Int64} {w30 : Nat → Int64} {w31 : Nat → Int64} : (sgM_land σ w0 w1 w2 w3 w4 w5 w6 w7 w8 w9 w10 w11 w12 w13 w14 w15 w16 w17 w18 w19 w20 w21 w22 w23 w24 w25 w26 w27 w28 w29 w30 w31).2.2.1 614 = w18 := rfl
theorem sgM_land_raI615 {σ : Sto} {w0 : Int32} {w1 : Int32} {w2 : Int32} {w3 : Int32} {w4 : Int32} {w5 : Int32} {w6 : Int32} {w7 : Int32} {w8 : Int32} {w9 : Int32} {w10 : Int32} {w11 : Int32} {w12 : Int32} {w13 : Int32} {w14 : Int32} {w15 : Nat → Int32} {w16 : Nat → Int32} {w17 : Nat → Int32} {w18 : Nat → Int32} {w19 : Nat → Int32} {w20 : Nat → Int32} {w21 : Nat → Int32} {w22 : Nat → Int32} {w23 : Nat → Int32} {w24 : Nat → Int32} {w25 : Nat → Int32} {w26 : Nat → Int32} {w27 : Nat → Int32} {w28 : Nat → Int32} {w29 : Nat → Int64} {w30 : Nat → Int64} {w31 : Nat → Int64} : (sgM_land σ w0 w1 w2 w3 w4 w5 w6 w7 w8 w9 w10 w11 w12 w13 w14 w15 w16 w17 w18 w19 w20 w21 w22 w23 w24 w25 w26 w27 w28 w29 w30 w31).2.2.1 615 = w19 := rfl
theorem sgM_land_raI616 {σ : Sto} {w0 : Int32} {w1 : Int32} {w2 : Int32} {w3 : Int32} {w4 : Int32} {w5 : Int32} {w6 : Int32} {w7 : Int32} {w8 : Int32} {w9 : Int32} {w10 : Int32} {w11 : Int32} {w12 : Int32} {w13 : Int32} {w14 : Int32} {w15 : Nat → Int32} {w16 : Nat → Int32} {w17 : Nat → Int32} {w18 : Nat → Int32} {w19 : Nat → Int32} {w20 : Nat → Int32} {w21 : Nat → Int32} {w22 : Nat → Int32} {w23 : Nat → Int32} {w24 : Nat → Int32} {w25 : Nat → Int32} {w26 : Nat → Int32} {w27 : Nat → Int32} {w28 : Nat → Int32} {w29 : Nat → Int64} {w30 : Nat → Int64} {w31 : Nat → Int64} : (sgM_land σ w0 w1 w2 w3 w4 w5 w6 w7 w8 w9 w10 w11 w12 w13 w14 w15 w16 w17 w18 w19 w20 w21 w22 w23 w24 w25 w26 w27 w28 w29 w30 w31).2.2.1 616 = w20 := rfl
theorem sgM_land_raI617 {σ : Sto} {w0 : Int32} {w1 : Int32} {w2 : Int32} {w3 : Int32} {w4 : Int32} {w5 : Int32} {w6 : Int32} {w7 : Int32} {w8 : Int32} {w9 : Int32} {w10 : Int32} {w11 : Int32} {w12 : Int32} {w13 : Int32} {w14 : Int32} {w15 : Nat → Int32} {w16 : Nat → Int32} {w17 : Nat → Int32} {w18 : Nat → Int32} {w19 : Nat → Int32} {w20 : Nat → Int32} {w21 : Nat → Int32} {w22 : Nat → Int32} {w23 : Nat → Int32} {w24 : Nat → Int32} {w25 : Nat → Int32} {w26 : Nat → Int32} {w27 : Nat → Int32} {w28 : Nat → Int32} {w29 : Nat → Int64} {w30 : Nat → Int64} {w31 : Nat → Int64} : (sgM_land σ w0 w1 w2 w3 w4 w5 w6 w7 w8 w9 w10 w11 w12 w13 w14 w15 w16 w17 w18 w19 w20 w21 w22 w23 w24 w25 w26 w27 w28 w29 w30 w31).2.2.1 617 = w21 := rfl
theorem sgM_land_raI618 {σ : Sto} {w0 : Int32} {w1 : Int32} {w2 : Int32} {w3 : Int32} {w4 : Int32} {w5 : Int32} {w6 : Int32} {w7 : Int32} {w8 : Int32} {w9 : Int32} {w10 : Int32} {w11 : Int32} {w12 : Int32} {w13 : Int32} {w14 : Int32} {w15 : Nat → Int32} {w16 : Nat → Int32} {w17 : Nat → Int32} {w18 : Nat → Int32} {w19 : Nat → Int32} {w20 : Nat → Int32} {w21 : Nat → Int32} {w22 : Nat → Int32} {w23 : Nat → Int32} {w24 : Nat → Int32} {w25 : Nat → Int32} {w26 : Nat → Int32} {w27 : Nat → Int32} {w28 : Nat → Int32} {w29 : Nat → Int64} {w30 : Nat → Int64} {w31 : Nat → Int64} : (sgM_land σ w0 w1 w2 w3 w4 w5 w6 w7 w8 w9 w10 w11 w12 w13 w14 w15 w16 w17 w18 w19 w20 w21 w22 w23 w24 w25 w26 w27 w28 w29 w30 w31).2.2.1 618 = w22 := rfl
theorem sgM_land_raI620 {σ : Sto} {w0 : Int32} {w1 : Int32} {w2 : Int32} {w3 : Int32} {w4 : Int32} {w5 : Int32} {w6 : Int32} {w7 : Int32} {w8 : Int32} {w9 : Int32} {w10 : Int32} {w11 : Int32} {w12 : Int32} {w13 : Int32} {w14 : Int32} {w15 : Nat → Int32} {w16 : Nat → Int32} {w17 : Nat → Int32} {w18 : Nat → Int32} {w19 : Nat → Int32} {w20 : Nat → Int32} {w21 : Nat → Int32} {w22 : Nat → Int32} {w23 : Nat → Int32} {w24 : Nat → Int32} {w25 : Nat → Int32} {w26 : Nat → Int32} {w27 : Nat → Int32} {w28 : Nat → Int32} {w29 : Nat → Int64} {w30 : Nat → Int64} {w31 : Nat → Int64} : (sgM_land σ w0 w1 w2 w3 w4 w5 w6 w7 w8 w9 w10 w11 w12 w13 w14 w15 w16 w17 w18 w19 w20 w21 w22 w23 w24 w25 w26 w27 w28 w29 w30 w31).2.2.1 620 = w23 := rfl
theorem sgM_land_raI621 {σ : Sto} {w0 : Int32} {w1 : Int32} {w2 : Int32} {w3 : Int32} {w4 : Int32} {w5 : Int32} {w6 : Int32} {w7 : Int32} {w8 : Int32} {w9 : Int32} {w10 : Int32} {w11 : Int32} {w12 : Int32} {w13 : Int32} {w14 : Int32} {w15 : Nat → Int32} {w16 : Nat → Int32} {w17 : Nat → Int32} {w18 : Nat → Int32} {w19 : Nat → Int32} {w20 : Nat → Int32} {w21 : Nat → Int32} {w22 : Nat → Int32} {w23 : Nat → Int32} {w24 : Nat → Int32} {w25 : Nat → Int32} {w26 : Nat → Int32} {w27 : Nat → Int32} {w28 : Nat → Int32} {w29 : Nat → Int64} {w30 : Nat → Int64} {w31 : Nat → Int64} : (sgM_land σ w0 w1 w2 w3 w4 w5 w6 w7 w8 w9 w10 w11 w12 w13 w14 w15 w16 w17 w18 w19 w20 w21 w22 w23 w24 w25 w26 w27 w28 w29 w30 w31).2.2.1 621 = w24 := rfl
theorem sgM_land_raI624 {σ : Sto} {w0 : Int32} {w1 : Int32} {w2 : Int32} {w3 : Int32} {w4 : Int32} {w5 : Int32} {w6 : Int32} {w7 : Int32} {w8 : Int32} {w9 : Int32} {w10 : Int32} {w11 : Int32} {w12 : Int32} {w13 : Int32} {w14 : Int32} {w15 : Nat → Int32} {w16 : Nat → Int32} {w17 : Nat → Int32} {w18 : Nat → Int32} {w19 : Nat → Int32} {w20 : Nat → Int32} {w21 : Nat → Int32} {w22 : Nat → Int32} {w23 : Nat → Int32} {w24 : Nat → Int32} {w25 : Nat → Int32} {w26 : Nat → Int32} {w27 : Nat → Int32} {w28 : Nat → Int32} {w29 : Nat → Int64} {w30 : Nat → Int64} {w31 : Nat → Int64} : (sgM_land σ w0 w1 w2 w3 w4 w5 w6 w7 w8 w9 w10 w11 w12 w13 w14 w15 w16 w17 w18 w19 w20 w21 w22 w23 w24 w25 w26 w27 w28 w29 w30 w31).2.2.1 624 = w25 := rfl
theorem sgM_land_raI625 {σ : Sto} {w0 : Int32} {w1 : Int32} {w2 : Int32} {w3 : Int32} {w4 : Int32} {w5 : Int32} {w6 : Int32} {w7 : Int32} {w8 : Int32} {w9 : Int32} {w10 : Int32} {w11 : Int32} {w12 : Int32} {w13 : Int32} {w14 : Int32} {w15 : Nat → Int32} {w16 : Nat → Int32} {w17 : Nat → Int32} {w18 : Nat → Int32} {w19 : Nat → Int32} {w20 : Nat → Int32} {w21 : Nat → Int32} {w22 : Nat → Int32} {w23 : Nat → Int32} {w24 : Nat → Int32} {w25 : Nat → Int32} {w26 : Nat → Int32} {w27 : Nat → Int32} {w28 : Nat → Int32} {w29 : Nat → Int64} {w30 : Nat → Int64} {w31 : Nat → Int64} : (sgM_land σ w0 w1 w2 w3 w4 w5 w6 w7 w8 w9 w10 w11 w12 w13 w14 w15 w16 w17 w18 w19 w20 w21 w22 w23 w24 w25 w26 w27 w28 w29 w30 w31).2.2.1 625 = w26 := rfl
theorem sgM_land_raI632 {σ : Sto} {w0 : Int32} {w1 : Int32} {w2 : Int32} {w3 : Int32} {w4 : Int32} {w5 : Int32} {w6 : Int32} {w7 : Int32} {w8 : Int32} {w9 : Int32} {w10 : Int32} {w11 : Int32} {w12 : Int32} {w13 : Int32} {w14 : Int32} {w15 : Nat → Int32} {w16 : Nat → Int32} {w17 : Nat → Int32} {w18 : Nat → Int32} {w19 : Nat → Int32} {w20 : Nat → Int32} {w21 : Nat → Int32} {w22 : Nat → Int32} {w23 : Nat → Int32} {w24 : Nat → Int32} {w25 : Nat → Int32} {w26 : Nat → Int32} {w27 : Nat → Int32} {w28 : Nat → Int32} {w29 : Nat → Int64} {w30 : Nat → Int64} {w31 : Nat → Int64} : (sgM_land σ w0 w1 w2 w3 w4 w5 w6 w7 w8 w9 w10 w11 w12 w13 w14 w15 w16 w17 w18 w19 w20 w21 w22 w23 w24 w25 w26 w27 w28 w29 w30 w31).2.2.1 632 = w27 := rfl
theorem sgM_land_raI640 {σ : Sto} {w0 : Int32} {w1 : Int32} {w2 : Int32} {w3 : Int32} {w4 : Int32} {w5 : Int32} {w6 : Int32} {w7 : Int32} {w8 : Int32} {w9 : Int32} {w10 : Int32} {w11 : Int32} {w12 : Int32} {w13 : Int32} {w14 : Int32} {w15 : Nat → Int32} {w16 : Nat → Int32} {w17 : Nat → Int32} {w18 : Nat → Int32} {w19 : Nat → Int32} {w20 : Nat → Int32} {w21 : Nat → Int32} {w22 : Nat → Int32} {w23 : Nat → Int32} {w24 : Nat → Int32} {w25 : Nat → Int32} {w26 : Nat → Int32} {w27 : Nat → Int32} {w28 : Nat → Int32} {w29 : Nat → Int64} {w30 : Nat → Int64} {w31 : Nat → Int64} : (sgM_land σ w0 w1 w2 w3 w4 w5 w6 w7 w8 w9 w10 w11 w12 w13 w14 w15 w16 w17 w18 w19 w20 w21 w22 w23 w24 w25 w26 w27 w28 w29 w30 w31).2.2.1 640 = w28 := rfl
theorem sgM_land_raL626 {σ : Sto} {w0 : Int32} {w1 : Int32} {w2 : Int32} {w3 : Int32} {w4 : Int32} {w5 : Int32} {w6 : Int32} {w7 : Int32} {w8 : Int32} {w9 : Int32} {w10 : Int32} {w11 : Int32} {w12 : Int32} {w13 : Int32} {w14 : Int32} {w15 : Nat → Int32} {w16 : Nat → Int32} {w17 : Nat → Int32} {w18 : Nat → Int32} {w19 : Nat → Int32} {w20 : Nat → Int32} {w21 : Nat → Int32} {w22 : Nat → Int32} {w23 : Nat → Int32} {w24 : Nat → Int32} {w25 : Nat → Int32} {w26 : Nat → Int32} {w27 : Nat → Int32} {w28 : Nat → Int32} {w29 : Nat → Int64} {w30 : Nat → Int64} {w31 : Nat → Int64} : (sgM_land σ w0 w1 w2 w3 w4 w5 w6 w7 w8 w9 w10 w11 w12 w13 w14 w15 w16 w17 w18 w19 w20 w21 w22 w23 w24 w25 w26 w27 w28 w29 w30 w31).2.2.2.1 626 = w29 := rfl
theorem sgM_land_raL627 {σ : Sto} {w0 : Int32} {w1 : Int32} {w2 : Int32} {w3 : Int32} {w4 : Int32} {w5 : Int32} {w6 : Int32} {w7 : Int32} {w8 : Int32} {w9 : Int32} {w10 : Int32} {w11 : Int32} {w12 : Int32} {w13 : Int32} {w14 : Int32} {w15 : Nat → Int32} {w16 : Nat → Int32} {w17 : Nat → Int32} {w18 : Nat → Int32} {w19 : Nat → Int32} {w20 : Nat → Int32} {w21 : Nat → Int32} {w22 : Nat → Int32} {w23 : Nat → Int32} {w24 : Nat → Int32} {w25 : Nat → Int32} {w26 : Nat → Int32} {w27 : Nat → Int32} {w28 : Nat → Int32} {w29 : Nat → Int64} {w30 : Nat → Int64} {w31 : Nat → Int64} : (sgM_land σ w0 w1 w2 w3 w4 w5 w6 w7 w8 w9 w10 w11 w12 w13 w14 w15 w16 w17 w18 w19 w20 w21 w22 w23 w24 w25 w26 w27 w28 w29 w30 w31).2.2.2.1 627 = w30 := rfl
theorem sgM_land_raL628 {σ : Sto} {w0 : Int32} {w1 : Int32} {w2 : Int32} {w3 : Int32} {w4 : Int32} {w5 : Int32} {w6 : Int32} {w7 : Int32} {w8 : Int32} {w9 : Int32} {w10 : Int32} {w11 : Int32} {w12 : Int32} {w13 : Int32} {w14 : Int32} {w15 : Nat → Int32} {w16 : Nat → Int32} {w17 : Nat → Int32} {w18 : Nat → Int32} {w19 : Nat → Int32} {w20 : Nat → Int32} {w21 : Nat → Int32} {w22 : Nat → Int32} {w23 : Nat → Int32} {w24 : Nat → Int32} {w25 : Nat → Int32} {w26 : Nat → Int32} {w27 : Nat → Int32} {w28 : Nat → Int32} {w29 : Nat → Int64} {w30 : Nat → Int64} {w31 : Nat → Int64} : (sgM_land σ w0 w1 w2 w3 w4 w5 w6 w7 w8 w9 w10 w11 w12 w13 w14 w15 w16 w17 w18 w19 w20 w21 w22 w23 w24 w25 w26 w27 w28 w29 w30 w31).2.2.2.1 628 = w31 := rfl
abbrev rmM_land : Room := { frames := 6, cells := 0, slots := 0, locals := 146 }
set_option maxHeartbeats 4000000 in
theorem wkM_land {x1 : Int32} {r_ : Int32} {w_zI501 : Int32} {w_zI502 : Int32} {w_zI504 : Int32} {w_zI505 : Int32} {w_zI506 : Int32} {w_zI507 : Int32} {w_zI508 : Int32} {w_zI509 : Int32} {w_zI510 : Int32} {w_zI519 : Int32} {w_zI522 : Int32} {w_zI523 : Int32} {w_zI541 : Int32} {w_zI543 : Int32} {w_zI554 : Int32} {w_aI611 : Nat → Int32} {w_aI612 : Nat → Int32} {w_aI613 : Nat → Int32} {w_aI614 : Nat → Int32} {w_aI615 : Nat → Int32} {w_aI616 : Nat → Int32} {w_aI617 : Nat → Int32} {w_aI618 : Nat → Int32} {w_aI620 : Nat → Int32} {w_aI621 : Nat → Int32} {w_aI624 : Nat → Int32} {w_aI625 : Nat → Int32} {w_aI632 : Nat → Int32} {w_aI640 : Nat → Int32} {w_aL626 : Nat → Int64} {w_aL627 : Nat → Int64} {w_aL628 : Nat → Int64} (E : EN p s m args meth c0 RX16 cX16_land 3 (Option.some Jvm.ClassFile.FieldType.int)) (hK : KK D clsA G s) (hA : ∀ q, PA dscM ad s.heap.size q → A q) (hf : mo_land (σ.1 501) (σ.1 502) (σ.1 504) (σ.1 505) (σ.1 506) (σ.1 507) (σ.1 508) (σ.1 509) (σ.1 510) (σ.1 519) (σ.1 522) (σ.1 523) (σ.1 541) (σ.1 543) (σ.1 554) (σ.2.2.1 600) (σ.2.2.1 603) (σ.2.2.1 611) (σ.2.2.1 612) (σ.2.2.1 613) (σ.2.2.1 614) (σ.2.2.1 615) (σ.2.2.1 616) (σ.2.2.1 617) (σ.2.2.1 618) (σ.2.2.1 620) (σ.2.2.1 621) (σ.2.2.1 624) (σ.2.2.1 625) (σ.2.2.1 632) (σ.2.2.1 640) (σ.2.2.2.1 626) (σ.2.2.2.1 627) (σ.2.2.2.1 628) x1 = some (r_, w_zI501, w_zI502, w_zI504, w_zI505, w_zI506, w_zI507, w_zI508, w_zI509, w_zI510, w_zI519, w_zI522, w_zI523, w_zI541, w_zI543, w_zI554, w_aI611, w_aI612, w_aI613, w_aI614, w_aI615, w_aI616, w_aI617, w_aI618, w_aI620, w_aI621, w_aI624, w_aI625, w_aI632, w_aI640, w_aL626, w_aL627, w_aL628)) (hQ : Q = MQ below (va_Qi (fun x (_ : Unit) => x = r_) (fun _ t => PM D G ad (sgM_land σ w_zI501 w_zI502 w_zI504 w_zI505 w_zI506 w_zI507 w_zI508 w_zI509 w_zI510 w_zI519 w_zI522 w_zI523 w_zI541 w_zI543 w_zI554 w_aI611 w_aI612 w_aI613 w_aI614 w_aI615 w_aI616 w_aI617 w_aI618 w_aI620 w_aI621 w_aI624 w_aI625 w_aI632 w_aI640 w_aL626 w_aL627 w_aL628) t.heap ∧ KK D clsA G t) A) args s 0 0 A) (hP : PM D G ad σ H) (hS : va_S A s.heap H locs) (hl : lv_has ls 3 [(0, .ref (ad 500)), (1, .int x1)]) : W p l e rmM_land s m args below meth c0 H locs 0 0 Q (F0 m 0 ls []) := by
  obtain ⟨⟨hx, hb, hml, hown, hts⟩, hr, hlk⟩ := id E
  have hP := hP.to (sgM_land_self σ).symm
  unfold mo_land at hf
  refine lv_aload_n hx hb dX16_land_0 rfl (lv_at hl 0 rfl) ?_
  refine lv_iconst hx hb dX16_land_1 ic_0 ?_
  refine uM_2 E hK hP hS (hA _ (PA_c dM_500)) sgM_land_zI502 dX16_land_2 (fun H locs hP hS => ?_)
  refine lv_iload_n hx hb dX16_land_5 rfl (lv_at hl 1 rfl) ?_
  refine lv_if_lt (tgt := 17) hx hb dX16_land_6 (by decide) (fun c1 => ?_) (fun c1 => ?_)
  · have hf := ifT c1 hf
    refine lv_bipush hx hb dX16_land_17 bp_m2 ?_
    cases hf
    rw [hQ]; exact p_iret hx hb hr hlk hK hP hS dX16_land_19
  · have hf := ifF c1 hf
    refine lv_iload_n hx hb dX16_land_9 rfl (lv_at hl 1 rfl) ?_
    refine lv_aload_n hx hb dX16_land_10 rfl (lv_at hl 0 rfl) ?_
    refine gM_1 (v := (σ.1 501)) E hK hP sgM_land_rzI501 dX16_land_11 ?_
    refine lv_icmp_le (tgt := 20) hx hb dX16_land_14 (by decide) (fun c2 => ?_) (fun c2 => ?_)
    · have hf := ifT c2 hf
      refine lv_aload_n hx hb dX16_land_20 rfl (lv_at hl 0 rfl) ?_
      refine lv_iload_n hx hb dX16_land_21 rfl (lv_at hl 1 rfl) ?_
      refine uM_6 E hK hP hS (hA _ (PA_c dM_500)) sgM_land_zI506 dX16_land_22 (fun H locs hP hS => ?_)
      refine lv_aload_n hx hb dX16_land_25 rfl (lv_at hl 0 rfl) ?_
      refine lv_iconst hx hb dX16_land_26 ic_0 ?_
      refine uM_1 E hK hP hS (hA _ (PA_c dM_500)) sgM_land_zI501 dX16_land_27 (fun H locs hP hS => ?_)
      refine lv_aload_n hx hb dX16_land_30 rfl (lv_at hl 0 rfl) ?_
      refine lv_iconst hx hb dX16_land_31 ic_0 ?_
      refine uM_4 E hK hP hS (hA _ (PA_c dM_500)) sgM_land_zI504 dX16_land_32 (fun H locs hP hS => ?_)
      refine lv_aload_n hx hb dX16_land_35 rfl (lv_at hl 0 rfl) ?_
      refine lv_iconst hx hb dX16_land_36 ic_m1 ?_
      refine uM_5 E hK hP hS (hA _ (PA_c dM_500)) sgM_land_zI505 dX16_land_37 (fun H locs hP hS => ?_)
      refine lv_aload_n hx hb dX16_land_40 rfl (lv_at hl 0 rfl) ?_
      refine lv_iconst hx hb dX16_land_41 ic_0 ?_
      refine uM_7 E hK hP hS (hA _ (PA_c dM_500)) sgM_land_zI507 dX16_land_42 (fun H locs hP hS => ?_)
      refine lv_aload_n hx hb dX16_land_45 rfl (lv_at hl 0 rfl) ?_
      obtain ⟨a3, u4, hf⟩ := bdP hf
      refine cM_plain E hK hP hS hA sgM_land_raI611 u4 ⟨Nat.le_of_ble_eq_true rfl, Nat.le_of_ble_eq_true rfl⟩ ⟨Nat.zero_le _, Nat.zero_le _⟩ hl.1 (Nat.le_of_ble_eq_true rfl) dX16_land_46 (fun H locs hP hS => ?_)
      rw [sgM_land_aI611] at hP
      refine lv_iconst hx hb dX16_land_49 ic_0 ?_
      refine lv_istore_n (lv' := [(2, .int 0), (0, .ref (ad 500)), (1, .int x1)]) hx hb dX16_land_50 rfl hl (by decide) rfl (fun ls hl => ?_)
      refine lv_aload_n hx hb dX16_land_51 rfl (lv_at hl 1 rfl) ?_
      obtain ⟨⟨z5, z6, z7, z8⟩, u9, hf⟩ := bdP hf
      dsimp only at hf
      refine cM_take E hK hP hS hA sgM_land_rzI506 sgM_land_rzI507 sgM_land_rzI508 sgM_land_rzI509 sgM_land_rzI510 sgM_land_raI600 sgM_land_raI603 u9 ⟨Nat.le_of_ble_eq_true rfl, Nat.le_of_ble_eq_true rfl⟩ ⟨Nat.zero_le _, Nat.zero_le _⟩ hl.1 (Nat.le_of_ble_eq_true rfl) dX16_land_52 (fun H locs hP hS => ?_)
      rw [sgM_land_zI507, sgM_land_zI508, sgM_land_zI509, sgM_land_zI510] at hP
      have LP55 : ∀ (st55 : Int32 × Int32 × Int32 × Int32 × Int32 × Int32 × Int32 × Int32 × (Nat → Int32) × (Nat → Int32) × (Nat → Int32) × (Nat → Int32) × (Nat → Int32) × (Nat → Int32) × (Nat → Int32) × (Nat → Int32)) (ex55 : (Int32 × Int32 × Int32 × Int32 × Int32 × Int32 × Int32 × (Nat → Int32) × (Nat → Int32) × (Nat → Int32) × (Nat → Int32) × (Nat → Int32) × (Nat → Int32) × (Nat → Int32) × (Nat → Int32)) ⊕ (Int32 × Int32 × Int32 × Int32 × Int32 × Int32 × Int32 × Int32 × (Nat → Int32) × (Nat → Int32) × (Nat → Int32) × (Nat → Int32) × (Nat → Int32) × (Nat → Int32) × (Nat → Int32) × (Nat → Int32))), loop (mo_land_L55 (σ.2.2.1 600) (σ.2.2.1 603) x1) st55 = some ex55 → ∀ (H : Heap) (locs : List Loc), PM D G ad (sgM_land σ 0 0 (st55.2.1) (st55.2.2.1) x1 (st55.2.2.2.1) (st55.2.2.2.2.1) (st55.2.2.2.2.2.1) (st55.2.2.2.2.2.2.1) (st55.2.2.2.2.2.2.2.1) (σ.1 522) (σ.1 523) (σ.1 541) (σ.1 543) (σ.1 554) (st55.2.2.2.2.2.2.2.2.1) (st55.2.2.2.2.2.2.2.2.2.1) (st55.2.2.2.2.2.2.2.2.2.2.1) (st55.2.2.2.2.2.2.2.2.2.2.2.1) (st55.2.2.2.2.2.2.2.2.2.2.2.2.1) (st55.2.2.2.2.2.2.2.2.2.2.2.2.2.1) (st55.2.2.2.2.2.2.2.2.2.2.2.2.2.2.1) (st55.2.2.2.2.2.2.2.2.2.2.2.2.2.2.2) (σ.2.2.1 620) (σ.2.2.1 621) (σ.2.2.1 624) (σ.2.2.1 625) (σ.2.2.1 632) (σ.2.2.1 640) (σ.2.2.2.1 626) (σ.2.2.2.1 627) (σ.2.2.2.1 628)) H → va_S A s.heap H locs → ∀ (ls : Array Slot), lv_has ls 3 [(0, .ref (ad 500)), (2, .int (st55.1))] → (∀ (z46 : Int32) (z47 : Int32) (z48 : Int32) (z49 : Int32) (z50 : Int32) (z51 : Int32) (z52 : Int32) (a53 : Nat → Int32) (a54 : Nat → Int32) (a55 : Nat → Int32) (a56 : Nat → Int32) (a57 : Nat → Int32) (a58 : Nat → Int32) (a59 : Nat → Int32) (a60 : Nat → Int32), ex55 = (.inl ((z46, z47, z48, z49, z50, z51, z52, a53, a54, a55, a56, a57, a58, a59, a60))) → ∀ (H : Heap) (locs : List Loc), PM D G ad (sgM_land σ 0 0 z46 z47 x1 z48 z49 z50 z51 z52 (σ.1 522) (σ.1 523) (σ.1 541) (σ.1 543) (σ.1 554) a53 a54 a55 a56 a57 a58 a59 a60 (σ.2.2.1 620) (σ.2.2.1 621) (σ.2.2.1 624) (σ.2.2.1 625) (σ.2.2.1 632) (σ.2.2.1 640) (σ.2.2.2.1 626) (σ.2.2.2.1 627) (σ.2.2.2.1 628)) H → va_S A s.heap H locs → ∀ (ls : Array Slot), lv_has ls 3 [] → W p l e rmM_land s m args below meth c0 H locs 0 0 Q (F0 m 69 ls [])) → (∀ (y61 : Int32) (z62 : Int32) (z63 : Int32) (z64 : Int32) (z65 : Int32) (z66 : Int32) (z67 : Int32) (z68 : Int32) (a69 : Nat → Int32) (a70 : Nat → Int32) (a71 : Nat → Int32) (a72 : Nat → Int32) (a73 : Nat → Int32) (a74 : Nat → Int32) (a75 : Nat → Int32) (a76 : Nat → Int32), ex55 = (.inr (y61, z62, z63, z64, z65, z66, z67, z68, a69, a70, a71, a72, a73, a74, a75, a76)) → ∀ (H : Heap) (locs : List Loc), PM D G ad (sgM_land σ 0 0 z62 z63 x1 z64 z65 z66 z67 z68 (σ.1 522) (σ.1 523) (σ.1 541) (σ.1 543) (σ.1 554) a69 a70 a71 a72 a73 a74 a75 a76 (σ.2.2.1 620) (σ.2.2.1 621) (σ.2.2.1 624) (σ.2.2.1 625) (σ.2.2.1 632) (σ.2.2.1 640) (σ.2.2.2.1 626) (σ.2.2.2.1 627) (σ.2.2.2.1 628)) H → va_S A s.heap H locs → ∀ (ls : Array Slot), lv_has ls 3 [(0, .ref (ad 500)), (2, .int y61)] → W p l e rmM_land s m args below meth c0 H locs 0 0 Q (F0 m 77 ls [])) → W p l e rmM_land s m args below meth c0 H locs 0 0 Q (F0 m 55 ls []) := by
        refine loop_P (fun st55 ex55 o55 hf ih55 hx55 => ?_)
        obtain ⟨y10, z11, z12, z13, z14, z15, z16, z17, a18, a19, a20, a21, a22, a23, a24, a25⟩ := st55
        intro H locs (hP : PM D G ad (sgM_land σ 0 0 z11 z12 x1 z13 z14 z15 z16 z17 (σ.1 522) (σ.1 523) (σ.1 541) (σ.1 543) (σ.1 554) a18 a19 a20 a21 a22 a23 a24 a25 (σ.2.2.1 620) (σ.2.2.1 621) (σ.2.2.1 624) (σ.2.2.1 625) (σ.2.2.1 632) (σ.2.2.1 640) (σ.2.2.2.1 626) (σ.2.2.2.1 627) (σ.2.2.2.1 628)) H) hS ls (hl : lv_has ls 3 [(0, .ref (ad 500)), (2, .int y10)]) KE55_0 KE55_1
        dsimp only [mo_land_L55] at hf
        refine lv_aload_n hx hb dX16_land_55 rfl (lv_at hl 0 rfl) ?_
        refine gM_8 (v := z14) E hK hP sgM_land_rzI508 dX16_land_56 ?_
        refine lv_if_eq (tgt := 77) hx hb dX16_land_59 (by decide) (fun c26 => ?_) (fun c26 => ?_)
        · have hf := ifT c26 hf
          exact KE55_1 _ _ _ _ _ _ _ _ _ _ _ _ _ _ _ _ (hx55 _ (Option.some.inj hf).symm).symm H locs hP hS ls (lv_sub hl [0, 1] rfl)
        · have hf := ifF c26 hf
          refine lv_aload_n hx hb dX16_land_62 rfl (lv_at hl 0 rfl) ?_
          obtain ⟨⟨v27, z28, z29, z30, z31, z32, z33, z34, a35, a36, a37, a38, a39, a40, a41, a42⟩, u43, hf⟩ := bdP hf
          dsimp only at hf
          refine cM_lineRead E hK hP hS hA sgM_land_rzI504 sgM_land_rzI505 sgM_land_rzI506 sgM_land_rzI507 sgM_land_rzI508 sgM_land_rzI509 sgM_land_rzI510 sgM_land_rzI519 sgM_land_raI600 sgM_land_raI603 sgM_land_raI611 sgM_land_raI612 sgM_land_raI613 sgM_land_raI614 sgM_land_raI615 sgM_land_raI616 sgM_land_raI617 sgM_land_raI618 u43 ⟨Nat.le_of_ble_eq_true rfl, Nat.le_of_ble_eq_true rfl⟩ ⟨Nat.zero_le _, Nat.zero_le _⟩ hl.1 (Nat.le_of_ble_eq_true rfl) dX16_land_63 (fun H locs hP hS => ?_)
          rw [sgM_land_zI504, sgM_land_zI505, sgM_land_zI507, sgM_land_zI508, sgM_land_zI509, sgM_land_zI510, sgM_land_zI519, sgM_land_aI611, sgM_land_aI612, sgM_land_aI613, sgM_land_aI614, sgM_land_aI615, sgM_land_aI616, sgM_land_aI617, sgM_land_aI618] at hP
          refine lv_if_ne (tgt := 71) hx hb dX16_land_66 (by decide) (fun c44 => ?_) (fun c44 => ?_)
          · have hf := ifF c44 hf
            obtain ⟨v45, hv45, hf⟩ := bdP hf
            refine lv_iinc (v := v45) (lv' := [(2, .int v45), (0, .ref (ad 500))]) hx hb dX16_land_71 hl (k := 1) rfl (Option.some.inj hv45) (by decide) rfl (fun ls hl => ?_)
            refine lv_goto (tgt := 55) hx hb dX16_land_74 (by decide) ?_
            exact ih55 _ (Option.some.inj hf).symm H locs hP hS ls (lv_sub hl [1, 0] rfl) KE55_0 KE55_1
          · have hf := ifT c44 hf
            exact KE55_0 _ _ _ _ _ _ _ _ _ _ _ _ _ _ _ (hx55 _ (Option.some.inj hf).symm).symm H locs hP hS ls (lv_sub hl [] rfl)
      obtain ⟨ex55, hlp55, hf⟩ := bdP hf
      refine LP55 (0, 0, (-1), z5, z6, z7, z8, (σ.1 519), a3, (σ.2.2.1 612), (σ.2.2.1 613), (σ.2.2.1 614), (σ.2.2.1 615), (σ.2.2.1 616), (σ.2.2.1 617), (σ.2.2.1 618)) ex55 hlp55 H locs hP hS ls (lv_sub hl [1, 0] rfl) ?_ ?_
      · intro z46 z47 z48 z49 z50 z51 z52 a53 a54 a55 a56 a57 a58 a59 a60 hex55 H locs hP hS ls hl
        subst ex55
        dsimp only [sE_l, sE_r] at hf
        refine lv_iconst hx hb dX16_land_69 ic_m1 ?_
        cases hf
        rw [hQ]; exact p_iret hx hb hr hlk hK hP hS dX16_land_70
      · intro y61 z62 z63 z64 z65 z66 z67 z68 a69 a70 a71 a72 a73 a74 a75 a76 hex55 H locs hP hS ls hl
        subst ex55
        dsimp only [sE_l, sE_r] at hf
        refine lv_aload_n hx hb dX16_land_77 rfl (lv_at hl 0 rfl) ?_
        obtain ⟨⟨z77, z78, z79, z80, z81, a82, a83, a84, a85, a86, a87, a88, a89, a90, a91, a92, a93, a94, a95, a96, a97, a98⟩, u99, hf⟩ := bdP hf
        dsimp only at hf
        refine cM_keep E hK hP hS hA sgM_land_rzI522 sgM_land_rzI523 sgM_land_rzI541 sgM_land_rzI543 sgM_land_rzI554 sgM_land_raI611 sgM_land_raI612 sgM_land_raI613 sgM_land_raI614 sgM_land_raI615 sgM_land_raI616 sgM_land_raI617 sgM_land_raI618 sgM_land_raI620 sgM_land_raI621 sgM_land_raI624 sgM_land_raI625 sgM_land_raI632 sgM_land_raI640 sgM_land_raL626 sgM_land_raL627 sgM_land_raL628 u99 ⟨Nat.le_of_ble_eq_true rfl, Nat.le_of_ble_eq_true rfl⟩ ⟨Nat.zero_le _, Nat.zero_le _⟩ hl.1 (Nat.le_of_ble_eq_true rfl) dX16_land_78 (fun H locs hP hS => ?_)
        rw [sgM_land_zI522, sgM_land_zI523, sgM_land_zI541, sgM_land_zI543, sgM_land_zI554, sgM_land_aI611, sgM_land_aI612, sgM_land_aI613, sgM_land_aI614, sgM_land_aI615, sgM_land_aI616, sgM_land_aI617, sgM_land_aI618, sgM_land_aI620, sgM_land_aI621, sgM_land_aI624, sgM_land_aI625, sgM_land_aI632, sgM_land_aI640, sgM_land_aL626, sgM_land_aL627, sgM_land_aL628] at hP
        refine lv_iload_n hx hb dX16_land_81 rfl (lv_at hl 1 rfl) ?_
        cases hf
        rw [hQ]; exact p_iret hx hb hr hlk hK hP hS dX16_land_82
    · have hf := ifF c2 hf
      refine lv_bipush hx hb dX16_land_17 bp_m2 ?_
      cases hf
      rw [hQ]; exact p_iret hx hb hr hlk hK hP hS dX16_land_19
theorem kM_land (l : Launch) (D : va_G) (G : Nat → ClassId) (ad : Nat → Nat) (σ : Sto) {x1 : Int32} {r_ : Int32} {w_zI501 : Int32} {w_zI502 : Int32} {w_zI504 : Int32} {w_zI505 : Int32} {w_zI506 : Int32} {w_zI507 : Int32} {w_zI508 : Int32} {w_zI509 : Int32} {w_zI510 : Int32} {w_zI519 : Int32} {w_zI522 : Int32} {w_zI523 : Int32} {w_zI541 : Int32} {w_zI543 : Int32} {w_zI554 : Int32} {w_aI611 : Nat → Int32} {w_aI612 : Nat → Int32} {w_aI613 : Nat → Int32} {w_aI614 : Nat → Int32} {w_aI615 : Nat → Int32} {w_aI616 : Nat → Int32} {w_aI617 : Nat → Int32} {w_aI618 : Nat → Int32} {w_aI620 : Nat → Int32} {w_aI621 : Nat → Int32} {w_aI624 : Nat → Int32} {w_aI625 : Nat → Int32} {w_aI632 : Nat → Int32} {w_aI640 : Nat → Int32} {w_aL626 : Nat → Int64} {w_aL627 : Nat → Int64} {w_aL628 : Nat → Int64} (hf : mo_land (σ.1 501) (σ.1 502) (σ.1 504) (σ.1 505) (σ.1 506) (σ.1 507) (σ.1 508) (σ.1 509) (σ.1 510) (σ.1 519) (σ.1 522) (σ.1 523) (σ.1 541) (σ.1 543) (σ.1 554) (σ.2.2.1 600) (σ.2.2.1 603) (σ.2.2.1 611) (σ.2.2.1 612) (σ.2.2.1 613) (σ.2.2.1 614) (σ.2.2.1 615) (σ.2.2.1 616) (σ.2.2.1 617) (σ.2.2.1 618) (σ.2.2.1 620) (σ.2.2.1 621) (σ.2.2.1 624) (σ.2.2.1 625) (σ.2.2.1 632) (σ.2.2.1 640) (σ.2.2.2.1 626) (σ.2.2.2.1 627) (σ.2.2.2.1 628) x1 = some (r_, w_zI501, w_zI502, w_zI504, w_zI505, w_zI506, w_zI507, w_zI508, w_zI509, w_zI510, w_zI519, w_zI522, w_zI523, w_zI541, w_zI543, w_zI554, w_aI611, w_aI612, w_aI613, w_aI614, w_aI615, w_aI616, w_aI617, w_aI618, w_aI620, w_aI621, w_aI624, w_aI625, w_aI632, w_aI640, w_aL626, w_aL627, w_aL628)) : CtI l D clsA G dscM ad yX16_land (ws_ yX16_land cX16_land 3 (Option.some Jvm.ClassFile.FieldType.int)) rmM_land [.ref (ad 500), .int x1] σ r_ (sgM_land σ w_zI501 w_zI502 w_zI504 w_zI505 w_zI506 w_zI507 w_zI508 w_zI509 w_zI510 w_zI519 w_zI522 w_zI523 w_zI541 w_zI543 w_zI554 w_aI611 w_aI612 w_aI613 w_aI614 w_aI615 w_aI616 w_aI617 w_aI618 w_aI620 w_aI621 w_aI624 w_aI625 w_aI632 w_aI640 w_aL626 w_aL627 w_aL628) :=
  p_ctI (by decide +kernel) (Nat.le_of_ble_eq_true rfl) (fun p e s m below meth c0 ls A E hP hK hA hS hl => wkM_land E hK hA hf rfl hP hS hl)
/-! fault(I)I -/
def sgM_fault (σ : Sto) (w0 : Int32) : Sto := zI σ 502 w0
theorem sgM_fault_self (σ : Sto) : sgM_fault σ (σ.1 502) = σ := by
  unfold sgM_fault
  simp only [zI_self, zL_self, aI_self, aL_self]
theorem sgM_fault_zI502 {σ : Sto} {w0 : Int32} {g : Int32} : zI (sgM_fault σ w0) 502 g = sgM_fault σ g := zI_zI _ 502 _ _
theorem sgM_fault_rzI502 {σ : Sto} {w0 : Int32} : (sgM_fault σ w0).1 502 = w0 := rfl
theorem sgM_fault_rzI504 {σ : Sto} {w0 : Int32} : (sgM_fault σ w0).1 504 = σ.1 504 := rfl
theorem sgM_fault_rzI505 {σ : Sto} {w0 : Int32} : (sgM_fault σ w0).1 505 = σ.1 505 := rfl
abbrev rmM_fault : Room := { frames := 0, cells := 0, slots := 0, locals := 0 }
set_option maxHeartbeats 4000000 in
theorem wkM_fault {x1 : Int32} {r_ : Int32} {w_zI502 : Int32} (E : EN p s m args meth c0 RX16 cX16_fault 2 (Option.some Jvm.ClassFile.FieldType.int)) (hK : KK D clsA G s) (hA : ∀ q, PA dscM ad s.heap.size q → A q) (hf : mo_fault (σ.1 502) (σ.1 504) (σ.1 505) x1 = some (r_, w_zI502)) (hQ : Q = MQ below (va_Qi (fun x (_ : Unit) => x = r_) (fun _ t => PM D G ad (sgM_fault σ w_zI502) t.heap ∧ KK D clsA G t) A) args s 0 0 A) (hP : PM D G ad σ H) (hS : va_S A s.heap H locs) (hl : lv_has ls 2 [(0, .ref (ad 500)), (1, .int x1)]) : W p l e rmM_fault s m args below meth c0 H locs 0 0 Q (F0 m 0 ls []) := by
  obtain ⟨⟨hx, hb, hml, hown, hts⟩, hr, hlk⟩ := id E
  have hP := hP.to (sgM_fault_self σ).symm
  unfold mo_fault at hf
  refine lv_aload_n hx hb dX16_fault_0 rfl (lv_at hl 0 rfl) ?_
  refine lv_iconst hx hb dX16_fault_1 ic_0 ?_
  refine uM_2 E hK hP hS (hA _ (PA_c dM_500)) sgM_fault_zI502 dX16_fault_2 (fun H locs hP hS => ?_)
  refine lv_iload_n hx hb dX16_fault_5 rfl (lv_at hl 1 rfl) ?_
  refine lv_if_ne (tgt := 16) hx hb dX16_fault_6 (by decide) (fun c1 => ?_) (fun c1 => ?_)
  · have hf := ifF c1 hf
    refine lv_iload_n hx hb dX16_fault_16 rfl (lv_at hl 1 rfl) ?_
    refine lv_iconst hx hb dX16_fault_17 ic_1 ?_
    refine lv_icmp_ne (tgt := 28) hx hb dX16_fault_18 (by decide) (fun c2 => ?_) (fun c2 => ?_)
    · have hf := ifF c2 hf
      refine lv_iconst hx hb dX16_fault_28 ic_m1 ?_
      cases hf
      rw [hQ]; exact p_iret hx hb hr hlk hK hP hS dX16_fault_29
    · have hf := ifT c2 hf
      refine lv_aload_n hx hb dX16_fault_21 rfl (lv_at hl 0 rfl) ?_
      refine gM_5 (v := (σ.1 505)) E hK hP sgM_fault_rzI505 dX16_fault_22 ?_
      refine lv_goto (tgt := 29) hx hb dX16_fault_25 (by decide) ?_
      cases hf
      rw [hQ]; exact p_iret hx hb hr hlk hK hP hS dX16_fault_29
  · have hf := ifT c1 hf
    refine lv_aload_n hx hb dX16_fault_9 rfl (lv_at hl 0 rfl) ?_
    refine gM_4 (v := (σ.1 504)) E hK hP sgM_fault_rzI504 dX16_fault_10 ?_
    refine lv_goto (tgt := 29) hx hb dX16_fault_13 (by decide) ?_
    cases hf
    rw [hQ]; exact p_iret hx hb hr hlk hK hP hS dX16_fault_29
theorem kM_fault (l : Launch) (D : va_G) (G : Nat → ClassId) (ad : Nat → Nat) (σ : Sto) {x1 : Int32} {r_ : Int32} {w_zI502 : Int32} (hf : mo_fault (σ.1 502) (σ.1 504) (σ.1 505) x1 = some (r_, w_zI502)) : CtI l D clsA G dscM ad yX16_fault (ws_ yX16_fault cX16_fault 2 (Option.some Jvm.ClassFile.FieldType.int)) rmM_fault [.ref (ad 500), .int x1] σ r_ (sgM_fault σ w_zI502) :=
  p_ctI (by decide +kernel) (Nat.le_of_ble_eq_true rfl) (fun p e s m below meth c0 ls A E hP hK hA hS hl => wkM_fault E hK hA hf rfl hP hS hl)
/-! isWorld(I)Z -/
abbrev rmM_isWorld : Room := { frames := 0, cells := 0, slots := 0, locals := 0 }
set_option maxHeartbeats 4000000 in
theorem wkM_isWorld {x1 : Int32} {r_ : Int32} (E : EN p s m args meth c0 RX16 cX16_isWorld 2 (Option.some Jvm.ClassFile.FieldType.boolean)) (hK : KK D clsA G s) (hA : ∀ q, PA dscM ad s.heap.size q → A q) (hf : mo_isWorld (σ.1 522) x1 = some r_) (hQ : Q = MQ below (va_Qi (fun x (_ : Unit) => x = r_) (fun _ t => PM D G ad σ t.heap ∧ KK D clsA G t) A) args s 0 0 A) (hP : PM D G ad σ H) (hS : va_S A s.heap H locs) (hl : lv_has ls 2 [(0, .ref (ad 500)), (1, .int x1)]) : W p l e rmM_isWorld s m args below meth c0 H locs 0 0 Q (F0 m 0 ls []) := by
  obtain ⟨⟨hx, hb, hml, hown, hts⟩, hr, hlk⟩ := id E
  unfold mo_isWorld at hf
  refine lv_iload_n hx hb dX16_isWorld_0 rfl (lv_at hl 1 rfl) ?_
  have J16 : mo_isWorld_J16 = some r_ → ∀ (H : Heap) (locs : List Loc), PM D G ad σ H → va_S A s.heap H locs → ∀ (ls : Array Slot), lv_has ls 2 [] → W p l e rmM_isWorld s m args below meth c0 H locs 0 0 Q (F0 m 16 ls []) := by
    intro  hf H locs hP hS ls hl
    unfold mo_isWorld_J16 at hf
    refine lv_iconst hx hb dX16_isWorld_16 ic_0 ?_
    cases hf
    rw [hQ]; exact p_zret hx hb hr hlk hK hP hS rfl dX16_isWorld_17
  refine lv_if_lt (tgt := 16) hx hb dX16_isWorld_1 (by decide) (fun c1 => ?_) (fun c1 => ?_)
  · have hf := ifT c1 hf
    exact J16  hf H locs hP hS ls (lv_sub hl [] rfl)
  · have hf := ifF c1 hf
    refine lv_iload_n hx hb dX16_isWorld_4 rfl (lv_at hl 1 rfl) ?_
    refine lv_aload_n hx hb dX16_isWorld_5 rfl (lv_at hl 0 rfl) ?_
    refine gM_22 (v := (σ.1 522)) E hK hP rfl dX16_isWorld_6 ?_
    refine lv_icmp_ge (tgt := 16) hx hb dX16_isWorld_9 (by decide) (fun c2 => ?_) (fun c2 => ?_)
    · have hf := ifT c2 hf
      exact J16  hf H locs hP hS ls (lv_sub hl [] rfl)
    · have hf := ifF c2 hf
      refine lv_iconst hx hb dX16_isWorld_12 ic_1 ?_
      refine lv_goto (tgt := 17) hx hb dX16_isWorld_13 (by decide) ?_
      cases hf
      rw [hQ]; exact p_zret hx hb hr hlk hK hP hS rfl dX16_isWorld_17
theorem kM_isWorld (l : Launch) (D : va_G) (G : Nat → ClassId) (ad : Nat → Nat) (σ : Sto) {x1 : Int32} {r_ : Int32} (hf : mo_isWorld (σ.1 522) x1 = some r_) : CtI l D clsA G dscM ad yX16_isWorld (ws_ yX16_isWorld cX16_isWorld 2 (Option.some Jvm.ClassFile.FieldType.boolean)) rmM_isWorld [.ref (ad 500), .int x1] σ r_ σ :=
  p_ctI (by decide +kernel) (Nat.le_of_ble_eq_true rfl) (fun p e s m below meth c0 ls A E hP hK hA hS hl => wkM_isWorld E hK hA hf rfl hP hS hl)
theorem cM_isWorld (E : EN p s m args meth c0 RX16 cc nL ret) (hK : KK D clsA G s) (hP : PM D G ad σ H) (hS : va_S A s.heap H locs) (hA : ∀ q, PA dscM ad s.heap.size q → A q) {x1 : Int32} {r_ : Int32} {z_worlds : Int32} (e_zI522 : σ.1 522 = z_worlds) (hu : mo_isWorld z_worlds x1 = some r_) (hR : rmM_isWorld.frames + 1 ≤ R.frames ∧ 8 + (2 + 11) + rmM_isWorld.locals ≤ R.locals) (hcs : cells ≤ R.cells ∧ slots ≤ R.slots) (hsz : ls.size = nL) (hW : (rest.map fun v => v.category).sum ≤ 8) (hdg : decode cc pc = .ok (.invokevirtual 280, 3)) (kk : ∀ (H1 : Heap) (locs1 : List Loc), PM D G ad σ H1 → va_S A s.heap H1 locs1 → W p l e R s m args below meth c0 H1 locs1 cells slots Q (F0 m (pc + 3) ls (.int r_ :: rest))) : W p l e R s m args below meth c0 H locs cells slots Q (F0 m pc ls (.int x1 :: .ref (ad 500) :: rest)) := by
  subst e_zI522
  exact p_callI (As := [.int x1]) (rest := rest) E.1 hK hP hS hA (kM_isWorld l D G ad σ hu) (cwV 1 E.1.2.2.2.2 (lw_V q1966 q1968 qs75 q142 q1969) rfl rfl rfl (by decide +kernel) hR) dM_500 rfl rfl rfl hsz rfl hW hdg hcs kk
/-! weight(I)J -/
def sgM_weight (σ : Sto) (w0 : Int32) : Sto := zI σ 502 w0
theorem sgM_weight_self (σ : Sto) : sgM_weight σ (σ.1 502) = σ := by
  unfold sgM_weight
  simp only [zI_self, zL_self, aI_self, aL_self]
theorem sgM_weight_zI502 {σ : Sto} {w0 : Int32} {g : Int32} : zI (sgM_weight σ w0) 502 g = sgM_weight σ g := zI_zI _ 502 _ _
theorem sgM_weight_rzI502 {σ : Sto} {w0 : Int32} : (sgM_weight σ w0).1 502 = w0 := rfl
theorem sgM_weight_rzI522 {σ : Sto} {w0 : Int32} : (sgM_weight σ w0).1 522 = σ.1 522 := rfl
theorem sgM_weight_raL626 {σ : Sto} {w0 : Int32} : (sgM_weight σ w0).2.2.2.1 626 = σ.2.2.2.1 626 := rfl
abbrev rmM_weight : Room := { frames := 1, cells := 0, slots := 0, locals := 21 }
set_option maxHeartbeats 4000000 in
theorem wkM_weight {x1 : Int32} {r_ : Int64} {w_zI502 : Int32} (E : EN p s m args meth c0 RX16 cX16_weight 2 (Option.some Jvm.ClassFile.FieldType.long)) (hK : KK D clsA G s) (hA : ∀ q, PA dscM ad s.heap.size q → A q) (hf : mo_weight (σ.1 502) (σ.1 522) (σ.2.2.2.1 626) x1 = some (r_, w_zI502)) (hQ : Q = MQ below (va_Ql (fun x (_ : Unit) => x = r_) (fun _ t => PM D G ad (sgM_weight σ w_zI502) t.heap ∧ KK D clsA G t) A) args s 0 0 A) (hP : PM D G ad σ H) (hS : va_S A s.heap H locs) (hl : lv_has ls 2 [(0, .ref (ad 500)), (1, .int x1)]) : W p l e rmM_weight s m args below meth c0 H locs 0 0 Q (F0 m 0 ls []) := by
  obtain ⟨⟨hx, hb, hml, hown, hts⟩, hr, hlk⟩ := id E
  have hP := hP.to (sgM_weight_self σ).symm
  unfold mo_weight at hf
  refine lv_aload_n hx hb dX16_weight_0 rfl (lv_at hl 0 rfl) ?_
  refine lv_iconst hx hb dX16_weight_1 ic_0 ?_
  refine uM_2 E hK hP hS (hA _ (PA_c dM_500)) sgM_weight_zI502 dX16_weight_2 (fun H locs hP hS => ?_)
  refine lv_aload_n hx hb dX16_weight_5 rfl (lv_at hl 0 rfl) ?_
  refine lv_iload_n hx hb dX16_weight_6 rfl (lv_at hl 1 rfl) ?_
  obtain ⟨v1, u2, hf⟩ := bdP hf
  refine cM_isWorld E hK hP hS hA sgM_weight_rzI522 u2 ⟨Nat.le_of_ble_eq_true rfl, Nat.le_of_ble_eq_true rfl⟩ ⟨Nat.zero_le _, Nat.zero_le _⟩ hl.1 (Nat.le_of_ble_eq_true rfl) dX16_weight_7 (fun H locs hP hS => ?_)
  refine lv_if_eq (tgt := 22) hx hb dX16_weight_10 (by decide) (fun c3 => ?_) (fun c3 => ?_)
  · have hf := ifT c3 hf
    refine lv_ldc2 hx hb hown (hts _ q1970) dX16_weight_22 ?_
    cases hf
    rw [hQ]; exact p_lret hx hb hr hlk hK hP hS dX16_weight_25
  · have hf := ifF c3 hf
    refine lv_aload_n hx hb dX16_weight_13 rfl (lv_at hl 0 rfl) ?_
    refine gM_26 E hK hP dX16_weight_14 ?_
    refine lv_iload_n hx hb dX16_weight_17 rfl (lv_at hl 1 rfl) ?_
    obtain ⟨v4, hv4, hf⟩ := bdP hf
    refine p_lald hx hb hK hP dM_626 sgM_weight_raL626 hv4 dX16_weight_18 ?_
    refine lv_goto (tgt := 25) hx hb dX16_weight_19 (by decide) ?_
    cases hf
    rw [hQ]; exact p_lret hx hb hr hlk hK hP hS dX16_weight_25
theorem kM_weight (l : Launch) (D : va_G) (G : Nat → ClassId) (ad : Nat → Nat) (σ : Sto) {x1 : Int32} {r_ : Int64} {w_zI502 : Int32} (hf : mo_weight (σ.1 502) (σ.1 522) (σ.2.2.2.1 626) x1 = some (r_, w_zI502)) : CtL l D clsA G dscM ad yX16_weight (ws_ yX16_weight cX16_weight 2 (Option.some Jvm.ClassFile.FieldType.long)) rmM_weight [.ref (ad 500), .int x1] σ r_ (sgM_weight σ w_zI502) :=
  p_ctL (by decide +kernel) (Nat.le_of_ble_eq_true rfl) (fun p e s m below meth c0 ls A E hP hK hA hS hl => wkM_weight E hK hA hf rfl hP hS hl)
/-! isKnowing(I)Z -/
abbrev rmM_isKnowing : Room := { frames := 0, cells := 0, slots := 0, locals := 0 }
set_option maxHeartbeats 4000000 in
theorem wkM_isKnowing {x1 : Int32} {r_ : Int32} (E : EN p s m args meth c0 RX16 cX16_isKnowing 2 (Option.some Jvm.ClassFile.FieldType.boolean)) (hK : KK D clsA G s) (hA : ∀ q, PA dscM ad s.heap.size q → A q) (hf : mo_isKnowing (σ.1 523) x1 = some r_) (hQ : Q = MQ below (va_Qi (fun x (_ : Unit) => x = r_) (fun _ t => PM D G ad σ t.heap ∧ KK D clsA G t) A) args s 0 0 A) (hP : PM D G ad σ H) (hS : va_S A s.heap H locs) (hl : lv_has ls 2 [(0, .ref (ad 500)), (1, .int x1)]) : W p l e rmM_isKnowing s m args below meth c0 H locs 0 0 Q (F0 m 0 ls []) := by
  obtain ⟨⟨hx, hb, hml, hown, hts⟩, hr, hlk⟩ := id E
  unfold mo_isKnowing at hf
  refine lv_iload_n hx hb dX16_isKnowing_0 rfl (lv_at hl 1 rfl) ?_
  have J16 : mo_isKnowing_J16 = some r_ → ∀ (H : Heap) (locs : List Loc), PM D G ad σ H → va_S A s.heap H locs → ∀ (ls : Array Slot), lv_has ls 2 [] → W p l e rmM_isKnowing s m args below meth c0 H locs 0 0 Q (F0 m 16 ls []) := by
    intro  hf H locs hP hS ls hl
    unfold mo_isKnowing_J16 at hf
    refine lv_iconst hx hb dX16_isKnowing_16 ic_0 ?_
    cases hf
    rw [hQ]; exact p_zret hx hb hr hlk hK hP hS rfl dX16_isKnowing_17
  refine lv_if_lt (tgt := 16) hx hb dX16_isKnowing_1 (by decide) (fun c1 => ?_) (fun c1 => ?_)
  · have hf := ifT c1 hf
    exact J16  hf H locs hP hS ls (lv_sub hl [] rfl)
  · have hf := ifF c1 hf
    refine lv_iload_n hx hb dX16_isKnowing_4 rfl (lv_at hl 1 rfl) ?_
    refine lv_aload_n hx hb dX16_isKnowing_5 rfl (lv_at hl 0 rfl) ?_
    refine gM_23 (v := (σ.1 523)) E hK hP rfl dX16_isKnowing_6 ?_
    refine lv_icmp_ge (tgt := 16) hx hb dX16_isKnowing_9 (by decide) (fun c2 => ?_) (fun c2 => ?_)
    · have hf := ifT c2 hf
      exact J16  hf H locs hP hS ls (lv_sub hl [] rfl)
    · have hf := ifF c2 hf
      refine lv_iconst hx hb dX16_isKnowing_12 ic_1 ?_
      refine lv_goto (tgt := 17) hx hb dX16_isKnowing_13 (by decide) ?_
      cases hf
      rw [hQ]; exact p_zret hx hb hr hlk hK hP hS rfl dX16_isKnowing_17
theorem kM_isKnowing (l : Launch) (D : va_G) (G : Nat → ClassId) (ad : Nat → Nat) (σ : Sto) {x1 : Int32} {r_ : Int32} (hf : mo_isKnowing (σ.1 523) x1 = some r_) : CtI l D clsA G dscM ad yX16_isKnowing (ws_ yX16_isKnowing cX16_isKnowing 2 (Option.some Jvm.ClassFile.FieldType.boolean)) rmM_isKnowing [.ref (ad 500), .int x1] σ r_ σ :=
  p_ctI (by decide +kernel) (Nat.le_of_ble_eq_true rfl) (fun p e s m below meth c0 ls A E hP hK hA hS hl => wkM_isKnowing E hK hA hf rfl hP hS hl)
theorem cM_isKnowing (E : EN p s m args meth c0 RX16 cc nL ret) (hK : KK D clsA G s) (hP : PM D G ad σ H) (hS : va_S A s.heap H locs) (hA : ∀ q, PA dscM ad s.heap.size q → A q) {x1 : Int32} {r_ : Int32} {z_knowings : Int32} (e_zI523 : σ.1 523 = z_knowings) (hu : mo_isKnowing z_knowings x1 = some r_) (hR : rmM_isKnowing.frames + 1 ≤ R.frames ∧ 8 + (2 + 11) + rmM_isKnowing.locals ≤ R.locals) (hcs : cells ≤ R.cells ∧ slots ≤ R.slots) (hsz : ls.size = nL) (hW : (rest.map fun v => v.category).sum ≤ 8) (hdg : decode cc pc = .ok (.invokevirtual 285, 3)) (kk : ∀ (H1 : Heap) (locs1 : List Loc), PM D G ad σ H1 → va_S A s.heap H1 locs1 → W p l e R s m args below meth c0 H1 locs1 cells slots Q (F0 m (pc + 3) ls (.int r_ :: rest))) : W p l e R s m args below meth c0 H locs cells slots Q (F0 m pc ls (.int x1 :: .ref (ad 500) :: rest)) := by
  subst e_zI523
  exact p_callI (As := [.int x1]) (rest := rest) E.1 hK hP hS hA (kM_isKnowing l D G ad σ hu) (cwV 1 E.1.2.2.2.2 (lw_V q1975 q1977 qs76 q142 q1978) rfl rfl rfl (by decide +kernel) hR) dM_500 rfl rfl rfl hsz rfl hW hdg hcs kk
/-! likely(I)J -/
def sgM_likely (σ : Sto) (w0 : Int32) : Sto := zI σ 502 w0
theorem sgM_likely_self (σ : Sto) : sgM_likely σ (σ.1 502) = σ := by
  unfold sgM_likely
  simp only [zI_self, zL_self, aI_self, aL_self]
theorem sgM_likely_zI502 {σ : Sto} {w0 : Int32} {g : Int32} : zI (sgM_likely σ w0) 502 g = sgM_likely σ g := zI_zI _ 502 _ _
theorem sgM_likely_rzI502 {σ : Sto} {w0 : Int32} : (sgM_likely σ w0).1 502 = w0 := rfl
theorem sgM_likely_rzI523 {σ : Sto} {w0 : Int32} : (sgM_likely σ w0).1 523 = σ.1 523 := rfl
theorem sgM_likely_raL628 {σ : Sto} {w0 : Int32} : (sgM_likely σ w0).2.2.2.1 628 = σ.2.2.2.1 628 := rfl
abbrev rmM_likely : Room := { frames := 1, cells := 0, slots := 0, locals := 21 }
set_option maxHeartbeats 4000000 in
theorem wkM_likely {x1 : Int32} {r_ : Int64} {w_zI502 : Int32} (E : EN p s m args meth c0 RX16 cX16_likely 2 (Option.some Jvm.ClassFile.FieldType.long)) (hK : KK D clsA G s) (hA : ∀ q, PA dscM ad s.heap.size q → A q) (hf : mo_likely (σ.1 502) (σ.1 523) (σ.2.2.2.1 628) x1 = some (r_, w_zI502)) (hQ : Q = MQ below (va_Ql (fun x (_ : Unit) => x = r_) (fun _ t => PM D G ad (sgM_likely σ w_zI502) t.heap ∧ KK D clsA G t) A) args s 0 0 A) (hP : PM D G ad σ H) (hS : va_S A s.heap H locs) (hl : lv_has ls 2 [(0, .ref (ad 500)), (1, .int x1)]) : W p l e rmM_likely s m args below meth c0 H locs 0 0 Q (F0 m 0 ls []) := by
  obtain ⟨⟨hx, hb, hml, hown, hts⟩, hr, hlk⟩ := id E
  have hP := hP.to (sgM_likely_self σ).symm
  unfold mo_likely at hf
  refine lv_aload_n hx hb dX16_likely_0 rfl (lv_at hl 0 rfl) ?_
  refine lv_iconst hx hb dX16_likely_1 ic_0 ?_
  refine uM_2 E hK hP hS (hA _ (PA_c dM_500)) sgM_likely_zI502 dX16_likely_2 (fun H locs hP hS => ?_)
  refine lv_aload_n hx hb dX16_likely_5 rfl (lv_at hl 0 rfl) ?_
  refine lv_iload_n hx hb dX16_likely_6 rfl (lv_at hl 1 rfl) ?_
  obtain ⟨v1, u2, hf⟩ := bdP hf
  refine cM_isKnowing E hK hP hS hA sgM_likely_rzI523 u2 ⟨Nat.le_of_ble_eq_true rfl, Nat.le_of_ble_eq_true rfl⟩ ⟨Nat.zero_le _, Nat.zero_le _⟩ hl.1 (Nat.le_of_ble_eq_true rfl) dX16_likely_7 (fun H locs hP hS => ?_)
  refine lv_if_eq (tgt := 22) hx hb dX16_likely_10 (by decide) (fun c3 => ?_) (fun c3 => ?_)
  · have hf := ifT c3 hf
    refine lv_ldc2 hx hb hown (hts _ q1970) dX16_likely_22 ?_
    cases hf
    rw [hQ]; exact p_lret hx hb hr hlk hK hP hS dX16_likely_25
  · have hf := ifF c3 hf
    refine lv_aload_n hx hb dX16_likely_13 rfl (lv_at hl 0 rfl) ?_
    refine gM_28 E hK hP dX16_likely_14 ?_
    refine lv_iload_n hx hb dX16_likely_17 rfl (lv_at hl 1 rfl) ?_
    obtain ⟨v4, hv4, hf⟩ := bdP hf
    refine p_lald hx hb hK hP dM_628 sgM_likely_raL628 hv4 dX16_likely_18 ?_
    refine lv_goto (tgt := 25) hx hb dX16_likely_19 (by decide) ?_
    cases hf
    rw [hQ]; exact p_lret hx hb hr hlk hK hP hS dX16_likely_25
theorem kM_likely (l : Launch) (D : va_G) (G : Nat → ClassId) (ad : Nat → Nat) (σ : Sto) {x1 : Int32} {r_ : Int64} {w_zI502 : Int32} (hf : mo_likely (σ.1 502) (σ.1 523) (σ.2.2.2.1 628) x1 = some (r_, w_zI502)) : CtL l D clsA G dscM ad yX16_likely (ws_ yX16_likely cX16_likely 2 (Option.some Jvm.ClassFile.FieldType.long)) rmM_likely [.ref (ad 500), .int x1] σ r_ (sgM_likely σ w_zI502) :=
  p_ctL (by decide +kernel) (Nat.le_of_ble_eq_true rfl) (fun p e s m below meth c0 ls A E hP hK hA hS hl => wkM_likely E hK hA hf rfl hP hS hl)
/-! isDoubtful(I)Z -/
abbrev rmM_isDoubtful : Room := { frames := 1, cells := 0, slots := 0, locals := 20 }
set_option maxHeartbeats 4000000 in
theorem wkM_isDoubtful {x1 : Int32} {r_ : Int32} (E : EN p s m args meth c0 RX16 cX16_isDoubtful 2 (Option.some Jvm.ClassFile.FieldType.boolean)) (hK : KK D clsA G s) (hA : ∀ q, PA dscM ad s.heap.size q → A q) (hf : mo_isDoubtful (σ.2.2.1 611) x1 = some r_) (hQ : Q = MQ below (va_Qi (fun x (_ : Unit) => x = r_) (fun _ t => PM D G ad σ t.heap ∧ KK D clsA G t) A) args s 0 0 A) (hP : PM D G ad σ H) (hS : va_S A s.heap H locs) (hl : lv_has ls 2 [(0, .ref (ad 500)), (1, .int x1)]) : W p l e rmM_isDoubtful s m args below meth c0 H locs 0 0 Q (F0 m 0 ls []) := by
  obtain ⟨⟨hx, hb, hml, hown, hts⟩, hr, hlk⟩ := id E
  unfold mo_isDoubtful at hf
  refine lv_iload_n hx hb dX16_isDoubtful_0 rfl (lv_at hl 1 rfl) ?_
  have J16 : mo_isDoubtful_J16 = some r_ → ∀ (H : Heap) (locs : List Loc), PM D G ad σ H → va_S A s.heap H locs → ∀ (ls : Array Slot), lv_has ls 2 [] → W p l e rmM_isDoubtful s m args below meth c0 H locs 0 0 Q (F0 m 16 ls []) := by
    intro  hf H locs hP hS ls hl
    unfold mo_isDoubtful_J16 at hf
    refine lv_iconst hx hb dX16_isDoubtful_16 ic_0 ?_
    cases hf
    rw [hQ]; exact p_zret hx hb hr hlk hK hP hS rfl dX16_isDoubtful_17
  refine lv_if_lt (tgt := 16) hx hb dX16_isDoubtful_1 (by decide) (fun c1 => ?_) (fun c1 => ?_)
  · have hf := ifT c1 hf
    exact J16  hf H locs hP hS ls (lv_sub hl [] rfl)
  · have hf := ifF c1 hf
    refine lv_iload_n hx hb dX16_isDoubtful_4 rfl (lv_at hl 1 rfl) ?_
    refine lv_aload_n hx hb dX16_isDoubtful_5 rfl (lv_at hl 0 rfl) ?_
    obtain ⟨v2, u3, hf⟩ := bdP hf
    refine cM_doubts E hK hP hS hA rfl u3 ⟨Nat.le_of_ble_eq_true rfl, Nat.le_of_ble_eq_true rfl⟩ ⟨Nat.zero_le _, Nat.zero_le _⟩ hl.1 (Nat.le_of_ble_eq_true rfl) dX16_isDoubtful_6 (fun H locs hP hS => ?_)
    refine lv_icmp_ge (tgt := 16) hx hb dX16_isDoubtful_9 (by decide) (fun c4 => ?_) (fun c4 => ?_)
    · have hf := ifT c4 hf
      exact J16  hf H locs hP hS ls (lv_sub hl [] rfl)
    · have hf := ifF c4 hf
      refine lv_iconst hx hb dX16_isDoubtful_12 ic_1 ?_
      refine lv_goto (tgt := 17) hx hb dX16_isDoubtful_13 (by decide) ?_
      cases hf
      rw [hQ]; exact p_zret hx hb hr hlk hK hP hS rfl dX16_isDoubtful_17
theorem kM_isDoubtful (l : Launch) (D : va_G) (G : Nat → ClassId) (ad : Nat → Nat) (σ : Sto) {x1 : Int32} {r_ : Int32} (hf : mo_isDoubtful (σ.2.2.1 611) x1 = some r_) : CtI l D clsA G dscM ad yX16_isDoubtful (ws_ yX16_isDoubtful cX16_isDoubtful 2 (Option.some Jvm.ClassFile.FieldType.boolean)) rmM_isDoubtful [.ref (ad 500), .int x1] σ r_ σ :=
  p_ctI (by decide +kernel) (Nat.le_of_ble_eq_true rfl) (fun p e s m below meth c0 ls A E hP hK hA hS hl => wkM_isDoubtful E hK hA hf rfl hP hS hl)
theorem cM_isDoubtful (E : EN p s m args meth c0 RX16 cc nL ret) (hK : KK D clsA G s) (hP : PM D G ad σ H) (hS : va_S A s.heap H locs) (hA : ∀ q, PA dscM ad s.heap.size q → A q) {x1 : Int32} {r_ : Int32} {a_many : Nat → Int32} (e_aI611 : σ.2.2.1 611 = a_many) (hu : mo_isDoubtful a_many x1 = some r_) (hR : rmM_isDoubtful.frames + 1 ≤ R.frames ∧ 8 + (2 + 11) + rmM_isDoubtful.locals ≤ R.locals) (hcs : cells ≤ R.cells ∧ slots ≤ R.slots) (hsz : ls.size = nL) (hW : (rest.map fun v => v.category).sum ≤ 8) (hdg : decode cc pc = .ok (.invokevirtual 288, 3)) (kk : ∀ (H1 : Heap) (locs1 : List Loc), PM D G ad σ H1 → va_S A s.heap H1 locs1 → W p l e R s m args below meth c0 H1 locs1 cells slots Q (F0 m (pc + 3) ls (.int r_ :: rest))) : W p l e R s m args below meth c0 H locs cells slots Q (F0 m pc ls (.int x1 :: .ref (ad 500) :: rest)) := by
  subst e_aI611
  exact p_callI (As := [.int x1]) (rest := rest) E.1 hK hP hS hA (kM_isDoubtful l D G ad σ hu) (cwV 1 E.1.2.2.2.2 (lw_V q1983 q1985 qs77 q142 q1986) rfl rfl rfl (by decide +kernel) hR) dM_500 rfl rfl rfl hsz rfl hW hdg hcs kk
/-! shut(II)J -/
def sgM_shut (σ : Sto) (w0 : Int32) : Sto := zI σ 502 w0
theorem sgM_shut_self (σ : Sto) : sgM_shut σ (σ.1 502) = σ := by
  unfold sgM_shut
  simp only [zI_self, zL_self, aI_self, aL_self]
theorem sgM_shut_zI502 {σ : Sto} {w0 : Int32} {g : Int32} : zI (sgM_shut σ w0) 502 g = sgM_shut σ g := zI_zI _ 502 _ _
theorem sgM_shut_rzI502 {σ : Sto} {w0 : Int32} : (sgM_shut σ w0).1 502 = w0 := rfl
theorem sgM_shut_rzI523 {σ : Sto} {w0 : Int32} : (sgM_shut σ w0).1 523 = σ.1 523 := rfl
theorem sgM_shut_raI611 {σ : Sto} {w0 : Int32} : (sgM_shut σ w0).2.2.1 611 = σ.2.2.1 611 := rfl
theorem sgM_shut_raI624 {σ : Sto} {w0 : Int32} : (sgM_shut σ w0).2.2.1 624 = σ.2.2.1 624 := rfl
theorem sgM_shut_raL628 {σ : Sto} {w0 : Int32} : (sgM_shut σ w0).2.2.2.1 628 = σ.2.2.2.1 628 := rfl
abbrev rmM_shut : Room := { frames := 2, cells := 0, slots := 0, locals := 41 }
set_option maxHeartbeats 4000000 in
theorem wkM_shut {x1 : Int32} {x2 : Int32} {r_ : Int64} {w_zI502 : Int32} (E : EN p s m args meth c0 RX16 cX16_shut 4 (Option.some Jvm.ClassFile.FieldType.long)) (hK : KK D clsA G s) (hA : ∀ q, PA dscM ad s.heap.size q → A q) (hf : mo_shut (σ.1 502) (σ.1 523) (σ.2.2.1 611) (σ.2.2.1 624) (σ.2.2.2.1 628) x1 x2 = some (r_, w_zI502)) (hQ : Q = MQ below (va_Ql (fun x (_ : Unit) => x = r_) (fun _ t => PM D G ad (sgM_shut σ w_zI502) t.heap ∧ KK D clsA G t) A) args s 0 0 A) (hP : PM D G ad σ H) (hS : va_S A s.heap H locs) (hl : lv_has ls 4 [(0, .ref (ad 500)), (1, .int x1), (2, .int x2)]) : W p l e rmM_shut s m args below meth c0 H locs 0 0 Q (F0 m 0 ls []) := by
  obtain ⟨⟨hx, hb, hml, hown, hts⟩, hr, hlk⟩ := id E
  have hP := hP.to (sgM_shut_self σ).symm
  unfold mo_shut at hf
  refine lv_aload_n hx hb dX16_shut_0 rfl (lv_at hl 0 rfl) ?_
  refine lv_iconst hx hb dX16_shut_1 ic_0 ?_
  refine uM_2 E hK hP hS (hA _ (PA_c dM_500)) sgM_shut_zI502 dX16_shut_2 (fun H locs hP hS => ?_)
  refine lv_aload_n hx hb dX16_shut_5 rfl (lv_at hl 0 rfl) ?_
  refine lv_iload_n hx hb dX16_shut_6 rfl (lv_at hl 1 rfl) ?_
  obtain ⟨v1, u2, hf⟩ := bdP hf
  refine cM_isKnowing E hK hP hS hA sgM_shut_rzI523 u2 ⟨Nat.le_of_ble_eq_true rfl, Nat.le_of_ble_eq_true rfl⟩ ⟨Nat.zero_le _, Nat.zero_le _⟩ hl.1 (Nat.le_of_ble_eq_true rfl) dX16_shut_7 (fun H locs hP hS => ?_)
  have J21 : mo_shut_J21 = some (r_, w_zI502) → ∀ (H : Heap) (locs : List Loc), PM D G ad (sgM_shut σ 0) H → va_S A s.heap H locs → ∀ (ls : Array Slot), lv_has ls 4 [] → W p l e rmM_shut s m args below meth c0 H locs 0 0 Q (F0 m 21 ls []) := by
    intro  hf H locs hP hS ls hl
    unfold mo_shut_J21 at hf
    refine lv_ldc2 hx hb hown (hts _ q1970) dX16_shut_21 ?_
    cases hf
    rw [hQ]; exact p_lret hx hb hr hlk hK hP hS dX16_shut_24
  refine lv_if_eq (tgt := 21) hx hb dX16_shut_10 (by decide) (fun c3 => ?_) (fun c3 => ?_)
  · have hf := ifT c3 hf
    exact J21  hf H locs hP hS ls (lv_sub hl [] rfl)
  · have hf := ifF c3 hf
    refine lv_aload_n hx hb dX16_shut_13 rfl (lv_at hl 0 rfl) ?_
    refine lv_iload_n hx hb dX16_shut_14 rfl (lv_at hl 2 rfl) ?_
    obtain ⟨v4, u5, hf⟩ := bdP hf
    refine cM_isDoubtful E hK hP hS hA sgM_shut_raI611 u5 ⟨Nat.le_of_ble_eq_true rfl, Nat.le_of_ble_eq_true rfl⟩ ⟨Nat.zero_le _, Nat.zero_le _⟩ hl.1 (Nat.le_of_ble_eq_true rfl) dX16_shut_15 (fun H locs hP hS => ?_)
    refine lv_if_ne (tgt := 25) hx hb dX16_shut_18 (by decide) (fun c6 => ?_) (fun c6 => ?_)
    · have hf := ifF c6 hf
      refine lv_aload_n hx hb dX16_shut_25 rfl (lv_at hl 0 rfl) ?_
      refine lv_iload_n hx hb dX16_shut_26 rfl (lv_at hl 1 rfl) ?_
      refine lv_iload_n hx hb dX16_shut_27 rfl (lv_at hl 2 rfl) ?_
      obtain ⟨v7, u8, hf⟩ := bdP hf
      refine cM_digit E hK hP hS hA sgM_shut_raI624 u8 ⟨Nat.le_of_ble_eq_true rfl, Nat.le_of_ble_eq_true rfl⟩ ⟨Nat.zero_le _, Nat.zero_le _⟩ hl.1 (Nat.le_of_ble_eq_true rfl) dX16_shut_28 (fun H locs hP hS => ?_)
      refine lv_istore_n (lv' := [(3, .int v7), (0, .ref (ad 500)), (1, .int x1), (2, .int x2)]) hx hb dX16_shut_31 rfl hl (by decide) rfl (fun ls hl => ?_)
      refine lv_iload_n hx hb dX16_shut_32 rfl (lv_at hl 0 rfl) ?_
      refine lv_iconst hx hb dX16_shut_33 ic_1 ?_
      refine lv_icmp_ne (tgt := 41) hx hb dX16_shut_34 (by decide) (fun c9 => ?_) (fun c9 => ?_)
      · have hf := ifF c9 hf
        refine lv_iload_n hx hb dX16_shut_41 rfl (lv_at hl 0 rfl) ?_
        refine lv_iconst hx hb dX16_shut_42 ic_2 ?_
        refine lv_icmp_ne (tgt := 55) hx hb dX16_shut_43 (by decide) (fun c10 => ?_) (fun c10 => ?_)
        · have hf := ifF c10 hf
          refine lv_aload_n hx hb dX16_shut_55 rfl (lv_at hl 1 rfl) ?_
          refine gM_28 E hK hP dX16_shut_56 ?_
          refine lv_iload_n hx hb dX16_shut_59 rfl (lv_at hl 2 rfl) ?_
          refine lv_iconst hx hb dX16_shut_60 ic_2 ?_
          refine lv_aload_n hx hb dX16_shut_61 rfl (lv_at hl 1 rfl) ?_
          refine gM_24 E hK hP dX16_shut_62 ?_
          refine lv_iload_n hx hb dX16_shut_65 rfl (lv_at hl 3 rfl) ?_
          obtain ⟨v11, hv11, hf⟩ := bdP hf
          refine p_iald hx hb hK hP dM_624 sgM_shut_raI624 hv11 dX16_shut_66 ?_
          refine lv_imul hx hb dX16_shut_67 ?_
          refine lv_iadd hx hb dX16_shut_68 ?_
          obtain ⟨v12, hv12, hf⟩ := bdP hf
          refine p_lald hx hb hK hP dM_628 sgM_shut_raL628 hv12 dX16_shut_69 ?_
          cases hf
          rw [hQ]; exact p_lret hx hb hr hlk hK hP hS dX16_shut_70
        · have hf := ifT c10 hf
          refine lv_aload_n hx hb dX16_shut_46 rfl (lv_at hl 1 rfl) ?_
          refine gM_28 E hK hP dX16_shut_47 ?_
          refine lv_iload_n hx hb dX16_shut_50 rfl (lv_at hl 2 rfl) ?_
          obtain ⟨v13, hv13, hf⟩ := bdP hf
          refine p_lald hx hb hK hP dM_628 sgM_shut_raL628 hv13 dX16_shut_51 ?_
          refine lv_goto (tgt := 70) hx hb dX16_shut_52 (by decide) ?_
          cases hf
          rw [hQ]; exact p_lret hx hb hr hlk hK hP hS dX16_shut_70
      · have hf := ifT c9 hf
        refine lv_lconst hx hb dX16_shut_37 lc_0 ?_
        refine lv_goto (tgt := 70) hx hb dX16_shut_38 (by decide) ?_
        cases hf
        rw [hQ]; exact p_lret hx hb hr hlk hK hP hS dX16_shut_70
    · have hf := ifT c6 hf
      exact J21  hf H locs hP hS ls (lv_sub hl [] rfl)
theorem kM_shut (l : Launch) (D : va_G) (G : Nat → ClassId) (ad : Nat → Nat) (σ : Sto) {x1 : Int32} {x2 : Int32} {r_ : Int64} {w_zI502 : Int32} (hf : mo_shut (σ.1 502) (σ.1 523) (σ.2.2.1 611) (σ.2.2.1 624) (σ.2.2.2.1 628) x1 x2 = some (r_, w_zI502)) : CtL l D clsA G dscM ad yX16_shut (ws_ yX16_shut cX16_shut 4 (Option.some Jvm.ClassFile.FieldType.long)) rmM_shut [.ref (ad 500), .int x1, .int x2] σ r_ (sgM_shut σ w_zI502) :=
  p_ctL (by decide +kernel) (Nat.le_of_ble_eq_true rfl) (fun p e s m below meth c0 ls A E hP hK hA hS hl => wkM_shut E hK hA hf rfl hP hS hl)
/-! fails(I)I -/
def sgM_fails (σ : Sto) (w0 : Int32) : Sto := zI σ 502 w0
theorem sgM_fails_self (σ : Sto) : sgM_fails σ (σ.1 502) = σ := by
  unfold sgM_fails
  simp only [zI_self, zL_self, aI_self, aL_self]
theorem sgM_fails_zI502 {σ : Sto} {w0 : Int32} {g : Int32} : zI (sgM_fails σ w0) 502 g = sgM_fails σ g := zI_zI _ 502 _ _
theorem sgM_fails_rzI502 {σ : Sto} {w0 : Int32} : (sgM_fails σ w0).1 502 = w0 := rfl
abbrev rmM_fails : Room := { frames := 0, cells := 0, slots := 0, locals := 0 }
set_option maxHeartbeats 4000000 in
theorem wkM_fails {x1 : Int32} {r_ : Int32} {w_zI502 : Int32} (E : EN p s m args meth c0 RX16 cX16_fails 2 (Option.some Jvm.ClassFile.FieldType.int)) (hK : KK D clsA G s) (hA : ∀ q, PA dscM ad s.heap.size q → A q) (hf : mo_fails (σ.1 502) x1 = some (r_, w_zI502)) (hQ : Q = MQ below (va_Qi (fun x (_ : Unit) => x = r_) (fun _ t => PM D G ad (sgM_fails σ w_zI502) t.heap ∧ KK D clsA G t) A) args s 0 0 A) (hP : PM D G ad σ H) (hS : va_S A s.heap H locs) (hl : lv_has ls 2 [(0, .ref (ad 500)), (1, .int x1)]) : W p l e rmM_fails s m args below meth c0 H locs 0 0 Q (F0 m 0 ls []) := by
  obtain ⟨⟨hx, hb, hml, hown, hts⟩, hr, hlk⟩ := id E
  have hP := hP.to (sgM_fails_self σ).symm
  unfold mo_fails at hf
  refine lv_aload_n hx hb dX16_fails_0 rfl (lv_at hl 0 rfl) ?_
  refine lv_iload_n hx hb dX16_fails_1 rfl (lv_at hl 1 rfl) ?_
  refine uM_2 E hK hP hS (hA _ (PA_c dM_500)) sgM_fails_zI502 dX16_fails_2 (fun H locs hP hS => ?_)
  refine lv_iconst hx hb dX16_fails_5 ic_0 ?_
  cases hf
  rw [hQ]; exact p_iret hx hb hr hlk hK hP hS dX16_fails_6
theorem kM_fails (l : Launch) (D : va_G) (G : Nat → ClassId) (ad : Nat → Nat) (σ : Sto) {x1 : Int32} {r_ : Int32} {w_zI502 : Int32} (hf : mo_fails (σ.1 502) x1 = some (r_, w_zI502)) : CtI l D clsA G dscM ad yX16_fails (ws_ yX16_fails cX16_fails 2 (Option.some Jvm.ClassFile.FieldType.int)) rmM_fails [.ref (ad 500), .int x1] σ r_ (sgM_fails σ w_zI502) :=
  p_ctI (by decide +kernel) (Nat.le_of_ble_eq_true rfl) (fun p e s m below meth c0 ls A E hP hK hA hS hl => wkM_fails E hK hA hf rfl hP hS hl)
theorem cM_fails (E : EN p s m args meth c0 RX16 cc nL ret) (hK : KK D clsA G s) (hP : PM D G ad σ H) (hS : va_S A s.heap H locs) (hA : ∀ q, PA dscM ad s.heap.size q → A q) {x1 : Int32} {r_ : Int32} {w_zI502 : Int32} {z_thrown : Int32} (e_zI502 : σ.1 502 = z_thrown) (hu : mo_fails z_thrown x1 = some (r_, w_zI502)) (hR : rmM_fails.frames + 1 ≤ R.frames ∧ 8 + (2 + 11) + rmM_fails.locals ≤ R.locals) (hcs : cells ≤ R.cells ∧ slots ≤ R.slots) (hsz : ls.size = nL) (hW : (rest.map fun v => v.category).sum ≤ 8) (hdg : decode cc pc = .ok (.invokevirtual 291, 3)) (kk : ∀ (H1 : Heap) (locs1 : List Loc), PM D G ad (zI σ 502 w_zI502) H1 → va_S A s.heap H1 locs1 → W p l e R s m args below meth c0 H1 locs1 cells slots Q (F0 m (pc + 3) ls (.int r_ :: rest))) : W p l e R s m args below meth c0 H locs cells slots Q (F0 m pc ls (.int x1 :: .ref (ad 500) :: rest)) := by
  subst e_zI502
  exact p_callI (As := [.int x1]) (rest := rest) E.1 hK hP hS hA (kM_fails l D G ad σ hu) (cwV 1 E.1.2.2.2.2 (lw_V q1991 q1993 qs78 q142 q1994) rfl rfl rfl (by decide +kernel) hR) dM_500 rfl rfl rfl hsz rfl hW hdg hcs kk
/-! isIn(III)Z -/
abbrev rmM_isIn : Room := { frames := 0, cells := 0, slots := 0, locals := 0 }
set_option maxHeartbeats 4000000 in
theorem wkM_isIn {x0 : Int32} {x1 : Int32} {x2 : Int32} {r_ : Int32} (E : EN p s m args meth c0 RX16 cX16_isIn 3 (Option.some Jvm.ClassFile.FieldType.boolean)) (hK : KK D clsA G s) (hA : ∀ q, PA dscM ad s.heap.size q → A q) (hf : mo_isIn x0 x1 x2 = some r_) (hQ : Q = MQ below (va_Qi (fun x (_ : Unit) => x = r_) (fun _ t => PM D G ad σ t.heap ∧ KK D clsA G t) A) args s 0 0 A) (hP : PM D G ad σ H) (hS : va_S A s.heap H locs) (hl : lv_has ls 3 [(0, .int x0), (1, .int x1), (2, .int x2)]) : W p l e rmM_isIn s m args below meth c0 H locs 0 0 Q (F0 m 0 ls []) := by
  obtain ⟨⟨hx, hb, hml, hown, hts⟩, hr, hlk⟩ := id E
  unfold mo_isIn at hf
  refine lv_iload_n hx hb dX16_isIn_0 rfl (lv_at hl 0 rfl) ?_
  refine lv_iload_n hx hb dX16_isIn_1 rfl (lv_at hl 1 rfl) ?_
  have J14 : mo_isIn_J14 = some r_ → ∀ (H : Heap) (locs : List Loc), PM D G ad σ H → va_S A s.heap H locs → ∀ (ls : Array Slot), lv_has ls 3 [] → W p l e rmM_isIn s m args below meth c0 H locs 0 0 Q (F0 m 14 ls []) := by
    intro  hf H locs hP hS ls hl
    unfold mo_isIn_J14 at hf
    refine lv_iconst hx hb dX16_isIn_14 ic_0 ?_
    cases hf
    rw [hQ]; exact p_zret hx hb hr hlk hK hP hS rfl dX16_isIn_15
  refine lv_icmp_lt (tgt := 14) hx hb dX16_isIn_2 (by decide) (fun c1 => ?_) (fun c1 => ?_)
  · have hf := ifT c1 hf
    exact J14  hf H locs hP hS ls (lv_sub hl [] rfl)
  · have hf := ifF c1 hf
    refine lv_iload_n hx hb dX16_isIn_5 rfl (lv_at hl 0 rfl) ?_
    refine lv_iload_n hx hb dX16_isIn_6 rfl (lv_at hl 2 rfl) ?_
    refine lv_icmp_gt (tgt := 14) hx hb dX16_isIn_7 (by decide) (fun c2 => ?_) (fun c2 => ?_)
    · have hf := ifT c2 hf
      exact J14  hf H locs hP hS ls (lv_sub hl [] rfl)
    · have hf := ifF c2 hf
      refine lv_iconst hx hb dX16_isIn_10 ic_1 ?_
      refine lv_goto (tgt := 15) hx hb dX16_isIn_11 (by decide) ?_
      cases hf
      rw [hQ]; exact p_zret hx hb hr hlk hK hP hS rfl dX16_isIn_15
theorem kM_isIn (l : Launch) (D : va_G) (G : Nat → ClassId) (ad : Nat → Nat) (σ : Sto) {x0 : Int32} {x1 : Int32} {x2 : Int32} {r_ : Int32} (hf : mo_isIn x0 x1 x2 = some r_) : CtI l D clsA G dscM ad yX16_isIn (ws_ yX16_isIn cX16_isIn 3 (Option.some Jvm.ClassFile.FieldType.boolean)) rmM_isIn [.int x0, .int x1, .int x2] σ r_ σ :=
  p_ctI (by decide +kernel) (Nat.le_of_ble_eq_true rfl) (fun p e s m below meth c0 ls A E hP hK hA hS hl => wkM_isIn E hK hA hf rfl hP hS hl)
theorem cM_isIn (E : EN p s m args meth c0 RX16 cc nL ret) (hK : KK D clsA G s) (hP : PM D G ad σ H) (hS : va_S A s.heap H locs) (hA : ∀ q, PA dscM ad s.heap.size q → A q) {x0 : Int32} {x1 : Int32} {x2 : Int32} {r_ : Int32} (hu : mo_isIn x0 x1 x2 = some r_) (hR : rmM_isIn.frames + 1 ≤ R.frames ∧ 8 + (3 + 11) + rmM_isIn.locals ≤ R.locals) (hcs : cells ≤ R.cells ∧ slots ≤ R.slots) (hsz : ls.size = nL) (hW : (rest.map fun v => v.category).sum ≤ 8) (hdg : decode cc pc = .ok (.invokestatic 294, 3)) (kk : ∀ (H1 : Heap) (locs1 : List Loc), PM D G ad σ H1 → va_S A s.heap H1 locs1 → W p l e R s m args below meth c0 H1 locs1 cells slots Q (F0 m (pc + 3) ls (.int r_ :: rest))) : W p l e R s m args below meth c0 H locs cells slots Q (F0 m pc ls (.int x2 :: .int x1 :: .int x0 :: rest)) := by
  exact p_callSI (As := [.int x0, .int x1, .int x2]) (rest := rest) E.1 hK hP hS hA (kM_isIn l D G ad σ hu) (va_cwS 3 E.1.2.2.2.2 (lw_S q1995 q1996 q142 q1997) rfl rfl rfl (by decide +kernel) hR) rfl hsz rfl hW hdg hcs kk
/-! look(II)I -/
def sgM_look (σ : Sto) (w0 : Int32) : Sto := zI σ 502 w0
theorem sgM_look_self (σ : Sto) : sgM_look σ (σ.1 502) = σ := by
  unfold sgM_look
  simp only [zI_self, zL_self, aI_self, aL_self]
theorem sgM_look_zI502 {σ : Sto} {w0 : Int32} {g : Int32} : zI (sgM_look σ w0) 502 g = sgM_look σ g := zI_zI _ 502 _ _
theorem sgM_look_rzI502 {σ : Sto} {w0 : Int32} : (sgM_look σ w0).1 502 = w0 := rfl
theorem sgM_look_raI611 {σ : Sto} {w0 : Int32} : (sgM_look σ w0).2.2.1 611 = σ.2.2.1 611 := rfl
theorem sgM_look_raI615 {σ : Sto} {w0 : Int32} : (sgM_look σ w0).2.2.1 615 = σ.2.2.1 615 := rfl
abbrev rmM_look : Room := { frames := 1, cells := 0, slots := 0, locals := 22 }
set_option maxHeartbeats 4000000 in
theorem wkM_look {x1 : Int32} {x2 : Int32} {r_ : Int32} {w_zI502 : Int32} (E : EN p s m args meth c0 RX16 cX16_look 3 (Option.some Jvm.ClassFile.FieldType.int)) (hK : KK D clsA G s) (hA : ∀ q, PA dscM ad s.heap.size q → A q) (hf : mo_look (σ.1 502) (σ.2.2.1 611) (σ.2.2.1 615) x1 x2 = some (r_, w_zI502)) (hQ : Q = MQ below (va_Qi (fun x (_ : Unit) => x = r_) (fun _ t => PM D G ad (sgM_look σ w_zI502) t.heap ∧ KK D clsA G t) A) args s 0 0 A) (hP : PM D G ad σ H) (hS : va_S A s.heap H locs) (hl : lv_has ls 3 [(0, .ref (ad 500)), (1, .int x1), (2, .int x2)]) : W p l e rmM_look s m args below meth c0 H locs 0 0 Q (F0 m 0 ls []) := by
  obtain ⟨⟨hx, hb, hml, hown, hts⟩, hr, hlk⟩ := id E
  have hP := hP.to (sgM_look_self σ).symm
  unfold mo_look at hf
  refine lv_aload_n hx hb dX16_look_0 rfl (lv_at hl 0 rfl) ?_
  refine lv_iconst hx hb dX16_look_1 ic_0 ?_
  refine uM_2 E hK hP hS (hA _ (PA_c dM_500)) sgM_look_zI502 dX16_look_2 (fun H locs hP hS => ?_)
  refine lv_iload_n hx hb dX16_look_5 rfl (lv_at hl 1 rfl) ?_
  have J19 : mo_look_J19 = some (r_, w_zI502) → ∀ (H : Heap) (locs : List Loc), PM D G ad (sgM_look σ 0) H → va_S A s.heap H locs → ∀ (ls : Array Slot), lv_has ls 3 [(0, .ref (ad 500))] → W p l e rmM_look s m args below meth c0 H locs 0 0 Q (F0 m 19 ls []) := by
    intro  hf H locs hP hS ls hl
    unfold mo_look_J19 at hf
    refine lv_aload_n hx hb dX16_look_19 rfl (lv_at hl 0 rfl) ?_
    refine lv_iconst hx hb dX16_look_20 ic_1 ?_
    obtain ⟨⟨v1, z2⟩, u3, hf⟩ := bdP hf
    dsimp only at hf
    refine cM_fails E hK hP hS hA sgM_look_rzI502 u3 ⟨Nat.le_of_ble_eq_true rfl, Nat.le_of_ble_eq_true rfl⟩ ⟨Nat.zero_le _, Nat.zero_le _⟩ hl.1 (Nat.le_of_ble_eq_true rfl) dX16_look_21 (fun H locs hP hS => ?_)
    rw [sgM_look_zI502] at hP
    cases hf
    rw [hQ]; exact p_iret hx hb hr hlk hK hP hS dX16_look_24
  refine lv_if_lt (tgt := 19) hx hb dX16_look_6 (by decide) (fun c4 => ?_) (fun c4 => ?_)
  · have hf := ifT c4 hf
    exact J19  hf H locs hP hS ls (lv_sub hl [0] rfl)
  · have hf := ifF c4 hf
    refine lv_iload_n hx hb dX16_look_9 rfl (lv_at hl 1 rfl) ?_
    refine lv_aload_n hx hb dX16_look_10 rfl (lv_at hl 0 rfl) ?_
    refine gM_11 E hK hP dX16_look_11 ?_
    refine lv_iconst hx hb dX16_look_14 ic_2 ?_
    obtain ⟨v5, hv5, hf⟩ := bdP hf
    refine p_iald hx hb hK hP dM_611 sgM_look_raI611 hv5 dX16_look_15 ?_
    refine lv_icmp_lt (tgt := 25) hx hb dX16_look_16 (by decide) (fun c6 => ?_) (fun c6 => ?_)
    · have hf := ifT c6 hf
      refine lv_iload_n hx hb dX16_look_25 rfl (lv_at hl 2 rfl) ?_
      refine lv_iconst hx hb dX16_look_26 ic_0 ?_
      refine lv_bipush hx hb dX16_look_27 bp_6 ?_
      obtain ⟨v7, u8, hf⟩ := bdP hf
      refine cM_isIn E hK hP hS hA u8 ⟨Nat.le_of_ble_eq_true rfl, Nat.le_of_ble_eq_true rfl⟩ ⟨Nat.zero_le _, Nat.zero_le _⟩ hl.1 (Nat.le_of_ble_eq_true rfl) dX16_look_29 (fun H locs hP hS => ?_)
      refine lv_if_eq (tgt := 49) hx hb dX16_look_32 (by decide) (fun c9 => ?_) (fun c9 => ?_)
      · have hf := ifT c9 hf
        refine lv_aload_n hx hb dX16_look_49 rfl (lv_at hl 0 rfl) ?_
        refine lv_iconst hx hb dX16_look_50 ic_2 ?_
        obtain ⟨⟨v10, z11⟩, u12, hf⟩ := bdP hf
        dsimp only at hf
        refine cM_fails E hK hP hS hA sgM_look_rzI502 u12 ⟨Nat.le_of_ble_eq_true rfl, Nat.le_of_ble_eq_true rfl⟩ ⟨Nat.zero_le _, Nat.zero_le _⟩ hl.1 (Nat.le_of_ble_eq_true rfl) dX16_look_51 (fun H locs hP hS => ?_)
        rw [sgM_look_zI502] at hP
        cases hf
        rw [hQ]; exact p_iret hx hb hr hlk hK hP hS dX16_look_54
      · have hf := ifF c9 hf
        refine lv_aload_n hx hb dX16_look_35 rfl (lv_at hl 0 rfl) ?_
        refine gM_15 E hK hP dX16_look_36 ?_
        refine lv_bipush hx hb dX16_look_39 bp_7 ?_
        refine lv_iload_n hx hb dX16_look_41 rfl (lv_at hl 1 rfl) ?_
        refine lv_imul hx hb dX16_look_42 ?_
        refine lv_iload_n hx hb dX16_look_43 rfl (lv_at hl 2 rfl) ?_
        refine lv_iadd hx hb dX16_look_44 ?_
        obtain ⟨v13, hv13, hf⟩ := bdP hf
        refine p_iald hx hb hK hP dM_615 sgM_look_raI615 hv13 dX16_look_45 ?_
        refine lv_goto (tgt := 54) hx hb dX16_look_46 (by decide) ?_
        cases hf
        rw [hQ]; exact p_iret hx hb hr hlk hK hP hS dX16_look_54
    · have hf := ifF c6 hf
      exact J19  hf H locs hP hS ls (lv_sub hl [0] rfl)
theorem kM_look (l : Launch) (D : va_G) (G : Nat → ClassId) (ad : Nat → Nat) (σ : Sto) {x1 : Int32} {x2 : Int32} {r_ : Int32} {w_zI502 : Int32} (hf : mo_look (σ.1 502) (σ.2.2.1 611) (σ.2.2.1 615) x1 x2 = some (r_, w_zI502)) : CtI l D clsA G dscM ad yX16_look (ws_ yX16_look cX16_look 3 (Option.some Jvm.ClassFile.FieldType.int)) rmM_look [.ref (ad 500), .int x1, .int x2] σ r_ (sgM_look σ w_zI502) :=
  p_ctI (by decide +kernel) (Nat.le_of_ble_eq_true rfl) (fun p e s m below meth c0 ls A E hP hK hA hS hl => wkM_look E hK hA hf rfl hP hS hl)
/-! hasEnds()Z -/
abbrev rmM_hasEnds : Room := { frames := 0, cells := 0, slots := 0, locals := 0 }
set_option maxHeartbeats 4000000 in
theorem wkM_hasEnds  {r_ : Int32} (E : EN p s m args meth c0 RX16 cX16_hasEnds 1 (Option.some Jvm.ClassFile.FieldType.boolean)) (hK : KK D clsA G s) (hA : ∀ q, PA dscM ad s.heap.size q → A q) (hf : mo_hasEnds (σ.2.2.1 611) = some r_) (hQ : Q = MQ below (va_Qi (fun x (_ : Unit) => x = r_) (fun _ t => PM D G ad σ t.heap ∧ KK D clsA G t) A) args s 0 0 A) (hP : PM D G ad σ H) (hS : va_S A s.heap H locs) (hl : lv_has ls 1 [(0, .ref (ad 500))]) : W p l e rmM_hasEnds s m args below meth c0 H locs 0 0 Q (F0 m 0 ls []) := by
  obtain ⟨⟨hx, hb, hml, hown, hts⟩, hr, hlk⟩ := id E
  unfold mo_hasEnds at hf
  refine lv_aload_n hx hb dX16_hasEnds_0 rfl (lv_at hl 0 rfl) ?_
  refine gM_11 E hK hP dX16_hasEnds_1 ?_
  refine lv_bipush hx hb dX16_hasEnds_4 bp_6 ?_
  obtain ⟨v1, hv1, hf⟩ := bdP hf
  refine p_iald hx hb hK hP dM_611 rfl hv1 dX16_hasEnds_6 ?_
  refine lv_iconst hx hb dX16_hasEnds_7 ic_m1 ?_
  have J26 : mo_hasEnds_J26 = some r_ → ∀ (H : Heap) (locs : List Loc), PM D G ad σ H → va_S A s.heap H locs → ∀ (ls : Array Slot), lv_has ls 1 [] → W p l e rmM_hasEnds s m args below meth c0 H locs 0 0 Q (F0 m 26 ls []) := by
    intro  hf H locs hP hS ls hl
    unfold mo_hasEnds_J26 at hf
    refine lv_iconst hx hb dX16_hasEnds_26 ic_0 ?_
    cases hf
    rw [hQ]; exact p_zret hx hb hr hlk hK hP hS rfl dX16_hasEnds_27
  refine lv_icmp_eq (tgt := 26) hx hb dX16_hasEnds_8 (by decide) (fun c2 => ?_) (fun c2 => ?_)
  · have hf := ifT c2 hf
    exact J26  hf H locs hP hS ls (lv_sub hl [] rfl)
  · have hf := ifF c2 hf
    refine lv_aload_n hx hb dX16_hasEnds_11 rfl (lv_at hl 0 rfl) ?_
    refine gM_11 E hK hP dX16_hasEnds_12 ?_
    refine lv_bipush hx hb dX16_hasEnds_15 bp_7 ?_
    obtain ⟨v3, hv3, hf⟩ := bdP hf
    refine p_iald hx hb hK hP dM_611 rfl hv3 dX16_hasEnds_17 ?_
    refine lv_iconst hx hb dX16_hasEnds_18 ic_m1 ?_
    refine lv_icmp_eq (tgt := 26) hx hb dX16_hasEnds_19 (by decide) (fun c4 => ?_) (fun c4 => ?_)
    · have hf := ifT c4 hf
      exact J26  hf H locs hP hS ls (lv_sub hl [] rfl)
    · have hf := ifF c4 hf
      refine lv_iconst hx hb dX16_hasEnds_22 ic_1 ?_
      refine lv_goto (tgt := 27) hx hb dX16_hasEnds_23 (by decide) ?_
      cases hf
      rw [hQ]; exact p_zret hx hb hr hlk hK hP hS rfl dX16_hasEnds_27
theorem kM_hasEnds (l : Launch) (D : va_G) (G : Nat → ClassId) (ad : Nat → Nat) (σ : Sto) {r_ : Int32} (hf : mo_hasEnds (σ.2.2.1 611) = some r_) : CtI l D clsA G dscM ad yX16_hasEnds (ws_ yX16_hasEnds cX16_hasEnds 1 (Option.some Jvm.ClassFile.FieldType.boolean)) rmM_hasEnds [.ref (ad 500)] σ r_ σ :=
  p_ctI (by decide +kernel) (Nat.le_of_ble_eq_true rfl) (fun p e s m below meth c0 ls A E hP hK hA hS hl => wkM_hasEnds E hK hA hf rfl hP hS hl)
theorem cM_hasEnds (E : EN p s m args meth c0 RX16 cc nL ret) (hK : KK D clsA G s) (hP : PM D G ad σ H) (hS : va_S A s.heap H locs) (hA : ∀ q, PA dscM ad s.heap.size q → A q) {r_ : Int32} {a_many : Nat → Int32} (e_aI611 : σ.2.2.1 611 = a_many) (hu : mo_hasEnds a_many = some r_) (hR : rmM_hasEnds.frames + 1 ≤ R.frames ∧ 8 + (1 + 11) + rmM_hasEnds.locals ≤ R.locals) (hcs : cells ≤ R.cells ∧ slots ≤ R.slots) (hsz : ls.size = nL) (hW : (rest.map fun v => v.category).sum ≤ 8) (hdg : decode cc pc = .ok (.invokevirtual 312, 3)) (kk : ∀ (H1 : Heap) (locs1 : List Loc), PM D G ad σ H1 → va_S A s.heap H1 locs1 → W p l e R s m args below meth c0 H1 locs1 cells slots Q (F0 m (pc + 3) ls (.int r_ :: rest))) : W p l e R s m args below meth c0 H locs cells slots Q (F0 m pc ls (.ref (ad 500) :: rest)) := by
  subst e_aI611
  exact p_callI (As := []) (rest := rest) E.1 hK hP hS hA (kM_hasEnds l D G ad σ hu) (cwV 0 E.1.2.2.2.2 (lw_V q2002 q2004 qs79 q142 q2005) rfl rfl rfl (by decide +kernel) hR) dM_500 rfl rfl rfl hsz rfl hW hdg hcs kk
/-! fullOf(I)I -/
abbrev rmM_fullOf : Room := { frames := 1, cells := 0, slots := 0, locals := 20 }
set_option maxHeartbeats 4000000 in
theorem wkM_fullOf {x1 : Int32} {r_ : Int32} (E : EN p s m args meth c0 RX16 cX16_fullOf 4 (Option.some Jvm.ClassFile.FieldType.int)) (hK : KK D clsA G s) (hA : ∀ q, PA dscM ad s.heap.size q → A q) (hf : mo_fullOf (σ.2.2.1 611) (σ.2.2.1 624) x1 = some r_) (hQ : Q = MQ below (va_Qi (fun x (_ : Unit) => x = r_) (fun _ t => PM D G ad σ t.heap ∧ KK D clsA G t) A) args s 0 0 A) (hP : PM D G ad σ H) (hS : va_S A s.heap H locs) (hl : lv_has ls 4 [(0, .ref (ad 500)), (1, .int x1)]) : W p l e rmM_fullOf s m args below meth c0 H locs 0 0 Q (F0 m 0 ls []) := by
  obtain ⟨⟨hx, hb, hml, hown, hts⟩, hr, hlk⟩ := id E
  unfold mo_fullOf at hf
  refine lv_iconst hx hb dX16_fullOf_0 ic_0 ?_
  refine lv_istore_n (lv' := [(2, .int 0), (0, .ref (ad 500)), (1, .int x1)]) hx hb dX16_fullOf_1 rfl hl (by decide) rfl (fun ls hl => ?_)
  refine lv_iconst hx hb dX16_fullOf_2 ic_0 ?_
  refine lv_istore_n (lv' := [(3, .int 0), (2, .int 0), (0, .ref (ad 500)), (1, .int x1)]) hx hb dX16_fullOf_3 rfl hl (by decide) rfl (fun ls hl => ?_)
  have LP4 : ∀ (st4 : Int32 × Int32) (ex4 : (Int32)), loop (mo_fullOf_L4 (σ.2.2.1 611) (σ.2.2.1 624) x1) st4 = some ex4 → ∀ (H : Heap) (locs : List Loc), PM D G ad σ H → va_S A s.heap H locs → ∀ (ls : Array Slot), lv_has ls 4 [(0, .ref (ad 500)), (1, .int x1), (2, .int (st4.1)), (3, .int (st4.2))] → (∀ (y9 : Int32), ex4 = y9 → ∀ (H : Heap) (locs : List Loc), PM D G ad σ H → va_S A s.heap H locs → ∀ (ls : Array Slot), lv_has ls 4 [(2, .int y9)] → W p l e rmM_fullOf s m args below meth c0 H locs 0 0 Q (F0 m 35 ls [])) → W p l e rmM_fullOf s m args below meth c0 H locs 0 0 Q (F0 m 4 ls []) := by
    refine loop_P (fun st4 ex4 o4 hf ih4 hx4 => ?_)
    obtain ⟨y1, y2⟩ := st4
    intro H locs (hP : PM D G ad σ H) hS ls (hl : lv_has ls 4 [(0, .ref (ad 500)), (1, .int x1), (2, .int y1), (3, .int y2)]) KE4_0
    dsimp only [mo_fullOf_L4] at hf
    refine lv_iload_n hx hb dX16_fullOf_4 rfl (lv_at hl 3 rfl) ?_
    refine lv_aload_n hx hb dX16_fullOf_5 rfl (lv_at hl 0 rfl) ?_
    obtain ⟨v3, u4, hf⟩ := bdP hf
    refine cM_doubts E hK hP hS hA rfl u4 ⟨Nat.le_of_ble_eq_true rfl, Nat.le_of_ble_eq_true rfl⟩ ⟨Nat.zero_le _, Nat.zero_le _⟩ hl.1 (Nat.le_of_ble_eq_true rfl) dX16_fullOf_6 (fun H locs hP hS => ?_)
    refine lv_icmp_ge (tgt := 35) hx hb dX16_fullOf_9 (by decide) (fun c5 => ?_) (fun c5 => ?_)
    · have hf := ifT c5 hf
      exact KE4_0 _ (hx4 _ (Option.some.inj hf).symm).symm H locs hP hS ls (lv_sub hl [2] rfl)
    · have hf := ifF c5 hf
      refine lv_iload_n hx hb dX16_fullOf_12 rfl (lv_at hl 2 rfl) ?_
      refine lv_iload_n hx hb dX16_fullOf_13 rfl (lv_at hl 1 rfl) ?_
      refine lv_iload_n hx hb dX16_fullOf_14 rfl (lv_at hl 3 rfl) ?_
      refine lv_ishr hx hb dX16_fullOf_15 ?_
      refine lv_iconst hx hb dX16_fullOf_16 ic_1 ?_
      refine lv_iand hx hb dX16_fullOf_17 ?_
      refine lv_iconst hx hb dX16_fullOf_18 ic_1 ?_
      refine lv_iadd hx hb dX16_fullOf_19 ?_
      refine lv_aload_n hx hb dX16_fullOf_20 rfl (lv_at hl 0 rfl) ?_
      refine gM_24 E hK hP dX16_fullOf_21 ?_
      refine lv_iload_n hx hb dX16_fullOf_24 rfl (lv_at hl 3 rfl) ?_
      obtain ⟨v6, hv6, hf⟩ := bdP hf
      refine p_iald hx hb hK hP dM_624 rfl hv6 dX16_fullOf_25 ?_
      refine lv_imul hx hb dX16_fullOf_26 ?_
      refine lv_iadd hx hb dX16_fullOf_27 ?_
      obtain ⟨v7, hv7, hf⟩ := bdP hf
      refine nm_i (Option.some.inj hv7) ?_
      refine lv_istore_n (lv' := [(2, .int v7), (0, .ref (ad 500)), (1, .int x1), (3, .int y2)]) hx hb dX16_fullOf_28 rfl hl (by decide) rfl (fun ls hl => ?_)
      obtain ⟨v8, hv8, hf⟩ := bdP hf
      refine lv_iinc (v := v8) (lv' := [(3, .int v8), (2, .int v7), (0, .ref (ad 500)), (1, .int x1)]) hx hb dX16_fullOf_29 hl (k := 3) rfl (Option.some.inj hv8) (by decide) rfl (fun ls hl => ?_)
      refine lv_goto (tgt := 4) hx hb dX16_fullOf_32 (by decide) ?_
      exact ih4 _ (Option.some.inj hf).symm H locs hP hS ls (lv_sub hl [2, 3, 1, 0] rfl) KE4_0
  obtain ⟨ex4, hlp4, hf⟩ := bdP hf
  refine LP4 (0, 0) ex4 hlp4 H locs hP hS ls (lv_sub hl [2, 3, 1, 0] rfl) ?_
  intro y9 hex4 H locs hP hS ls hl
  subst ex4
  refine lv_iload_n hx hb dX16_fullOf_35 rfl (lv_at hl 0 rfl) ?_
  cases hf
  rw [hQ]; exact p_iret hx hb hr hlk hK hP hS dX16_fullOf_36
theorem kM_fullOf (l : Launch) (D : va_G) (G : Nat → ClassId) (ad : Nat → Nat) (σ : Sto) {x1 : Int32} {r_ : Int32} (hf : mo_fullOf (σ.2.2.1 611) (σ.2.2.1 624) x1 = some r_) : CtI l D clsA G dscM ad yX16_fullOf (ws_ yX16_fullOf cX16_fullOf 4 (Option.some Jvm.ClassFile.FieldType.int)) rmM_fullOf [.ref (ad 500), .int x1] σ r_ σ :=
  p_ctI (by decide +kernel) (Nat.le_of_ble_eq_true rfl) (fun p e s m below meth c0 ls A E hP hK hA hS hl => wkM_fullOf E hK hA hf rfl hP hS hl)
theorem cM_fullOf (E : EN p s m args meth c0 RX16 cc nL ret) (hK : KK D clsA G s) (hP : PM D G ad σ H) (hS : va_S A s.heap H locs) (hA : ∀ q, PA dscM ad s.heap.size q → A q) {x1 : Int32} {r_ : Int32} {a_many : Nat → Int32} (e_aI611 : σ.2.2.1 611 = a_many) {a_three : Nat → Int32} (e_aI624 : σ.2.2.1 624 = a_three) (hu : mo_fullOf a_many a_three x1 = some r_) (hR : rmM_fullOf.frames + 1 ≤ R.frames ∧ 8 + (4 + 11) + rmM_fullOf.locals ≤ R.locals) (hcs : cells ≤ R.cells ∧ slots ≤ R.slots) (hsz : ls.size = nL) (hW : (rest.map fun v => v.category).sum ≤ 8) (hdg : decode cc pc = .ok (.invokevirtual 306, 3)) (kk : ∀ (H1 : Heap) (locs1 : List Loc), PM D G ad σ H1 → va_S A s.heap H1 locs1 → W p l e R s m args below meth c0 H1 locs1 cells slots Q (F0 m (pc + 3) ls (.int r_ :: rest))) : W p l e R s m args below meth c0 H locs cells slots Q (F0 m pc ls (.int x1 :: .ref (ad 500) :: rest)) := by
  subst e_aI611
  subst e_aI624
  exact p_callI (As := [.int x1]) (rest := rest) E.1 hK hP hS hA (kM_fullOf l D G ad σ hu) (cwV 1 E.1.2.2.2.2 (lw_V q2010 q2012 qs81 q142 q2013) rfl rfl rfl (by decide +kernel) hR) dM_500 rfl rfl rfl hsz rfl hW hdg hcs kk
/-! hoursOf(II)I -/
abbrev rmM_hoursOf : Room := { frames := 1, cells := 0, slots := 0, locals := 22 }
set_option maxHeartbeats 4000000 in
theorem wkM_hoursOf {x1 : Int32} {x2 : Int32} {r_ : Int32} (E : EN p s m args meth c0 RX16 cX16_hoursOf 4 (Option.some Jvm.ClassFile.FieldType.int)) (hK : KK D clsA G s) (hA : ∀ q, PA dscM ad s.heap.size q → A q) (hf : mo_hoursOf (σ.2.2.1 615) (σ.2.2.1 624) x1 x2 = some r_) (hQ : Q = MQ below (va_Qi (fun x (_ : Unit) => x = r_) (fun _ t => PM D G ad σ t.heap ∧ KK D clsA G t) A) args s 0 0 A) (hP : PM D G ad σ H) (hS : va_S A s.heap H locs) (hl : lv_has ls 4 [(0, .ref (ad 500)), (1, .int x1), (2, .int x2)]) : W p l e rmM_hoursOf s m args below meth c0 H locs 0 0 Q (F0 m 0 ls []) := by
  obtain ⟨⟨hx, hb, hml, hown, hts⟩, hr, hlk⟩ := id E
  unfold mo_hoursOf at hf
  refine lv_aload_n hx hb dX16_hoursOf_0 rfl (lv_at hl 0 rfl) ?_
  refine gM_15 E hK hP dX16_hoursOf_1 ?_
  refine lv_bipush hx hb dX16_hoursOf_4 bp_7 ?_
  refine lv_iload_n hx hb dX16_hoursOf_6 rfl (lv_at hl 1 rfl) ?_
  refine lv_imul hx hb dX16_hoursOf_7 ?_
  refine lv_bipush hx hb dX16_hoursOf_8 bp_6 ?_
  refine lv_iadd hx hb dX16_hoursOf_10 ?_
  obtain ⟨v1, hv1, hf⟩ := bdP hf
  refine p_iald hx hb hK hP dM_615 rfl hv1 dX16_hoursOf_11 ?_
  refine lv_istore_n (lv' := [(3, .int v1), (0, .ref (ad 500)), (1, .int x1), (2, .int x2)]) hx hb dX16_hoursOf_12 rfl hl (by decide) rfl (fun ls hl => ?_)
  refine lv_iload_n hx hb dX16_hoursOf_13 rfl (lv_at hl 0 rfl) ?_
  have J27 : mo_hoursOf_J27 (σ.2.2.1 615) x1 = some r_ → ∀ (H : Heap) (locs : List Loc), PM D G ad σ H → va_S A s.heap H locs → ∀ (ls : Array Slot), lv_has ls 4 [(0, .ref (ad 500)), (1, .int x1)] → W p l e rmM_hoursOf s m args below meth c0 H locs 0 0 Q (F0 m 27 ls []) := by
    intro  hf H locs hP hS ls hl
    unfold mo_hoursOf_J27 at hf
    refine lv_aload_n hx hb dX16_hoursOf_27 rfl (lv_at hl 0 rfl) ?_
    refine gM_15 E hK hP dX16_hoursOf_28 ?_
    refine lv_bipush hx hb dX16_hoursOf_31 bp_7 ?_
    refine lv_iload_n hx hb dX16_hoursOf_33 rfl (lv_at hl 1 rfl) ?_
    refine lv_imul hx hb dX16_hoursOf_34 ?_
    refine lv_iconst hx hb dX16_hoursOf_35 ic_2 ?_
    refine lv_iadd hx hb dX16_hoursOf_36 ?_
    obtain ⟨v2, hv2, hf⟩ := bdP hf
    refine p_iald hx hb hK hP dM_615 rfl hv2 dX16_hoursOf_37 ?_
    cases hf
    rw [hQ]; exact p_iret hx hb hr hlk hK hP hS dX16_hoursOf_38
  refine lv_if_lt (tgt := 27) hx hb dX16_hoursOf_14 (by decide) (fun c3 => ?_) (fun c3 => ?_)
  · have hf := ifT c3 hf
    exact J27  hf H locs hP hS ls (lv_sub hl [1, 2] rfl)
  · have hf := ifF c3 hf
    refine lv_aload_n hx hb dX16_hoursOf_17 rfl (lv_at hl 1 rfl) ?_
    refine lv_iload_n hx hb dX16_hoursOf_18 rfl (lv_at hl 3 rfl) ?_
    refine lv_iload_n hx hb dX16_hoursOf_19 rfl (lv_at hl 0 rfl) ?_
    obtain ⟨v4, u5, hf⟩ := bdP hf
    refine cM_digit E hK hP hS hA rfl u5 ⟨Nat.le_of_ble_eq_true rfl, Nat.le_of_ble_eq_true rfl⟩ ⟨Nat.zero_le _, Nat.zero_le _⟩ hl.1 (Nat.le_of_ble_eq_true rfl) dX16_hoursOf_20 (fun H locs hP hS => ?_)
    refine lv_iconst hx hb dX16_hoursOf_23 ic_1 ?_
    refine lv_icmp_ne (tgt := 39) hx hb dX16_hoursOf_24 (by decide) (fun c6 => ?_) (fun c6 => ?_)
    · have hf := ifF c6 hf
      refine lv_aload_n hx hb dX16_hoursOf_39 rfl (lv_at hl 1 rfl) ?_
      refine lv_iload_n hx hb dX16_hoursOf_40 rfl (lv_at hl 3 rfl) ?_
      refine lv_iload_n hx hb dX16_hoursOf_41 rfl (lv_at hl 0 rfl) ?_
      obtain ⟨v7, u8, hf⟩ := bdP hf
      refine cM_digit E hK hP hS hA rfl u8 ⟨Nat.le_of_ble_eq_true rfl, Nat.le_of_ble_eq_true rfl⟩ ⟨Nat.zero_le _, Nat.zero_le _⟩ hl.1 (Nat.le_of_ble_eq_true rfl) dX16_hoursOf_42 (fun H locs hP hS => ?_)
      refine lv_iconst hx hb dX16_hoursOf_45 ic_2 ?_
      have J89 : mo_hoursOf_J89 = some r_ → ∀ (H : Heap) (locs : List Loc), PM D G ad σ H → va_S A s.heap H locs → ∀ (ls : Array Slot), lv_has ls 4 [] → W p l e rmM_hoursOf s m args below meth c0 H locs 0 0 Q (F0 m 89 ls []) := by
        intro  hf H locs hP hS ls hl
        unfold mo_hoursOf_J89 at hf
        refine lv_iconst hx hb dX16_hoursOf_89 ic_m1 ?_
        cases hf
        rw [hQ]; exact p_iret hx hb hr hlk hK hP hS dX16_hoursOf_90
      refine lv_icmp_ne (tgt := 89) hx hb dX16_hoursOf_46 (by decide) (fun c9 => ?_) (fun c9 => ?_)
      · have hf := ifF c9 hf
        exact J89  hf H locs hP hS ls (lv_sub hl [] rfl)
      · have hf := ifT c9 hf
        refine lv_aload_n hx hb dX16_hoursOf_49 rfl (lv_at hl 1 rfl) ?_
        refine gM_15 E hK hP dX16_hoursOf_50 ?_
        refine lv_bipush hx hb dX16_hoursOf_53 bp_7 ?_
        refine lv_iload_n hx hb dX16_hoursOf_55 rfl (lv_at hl 2 rfl) ?_
        refine lv_imul hx hb dX16_hoursOf_56 ?_
        refine lv_iconst hx hb dX16_hoursOf_57 ic_5 ?_
        refine lv_iadd hx hb dX16_hoursOf_58 ?_
        obtain ⟨v10, hv10, hf⟩ := bdP hf
        refine p_iald hx hb hK hP dM_615 rfl hv10 dX16_hoursOf_59 ?_
        refine lv_if_le (tgt := 89) hx hb dX16_hoursOf_60 (by decide) (fun c11 => ?_) (fun c11 => ?_)
        · have hf := ifT c11 hf
          exact J89  hf H locs hP hS ls (lv_sub hl [] rfl)
        · have hf := ifF c11 hf
          refine lv_aload_n hx hb dX16_hoursOf_63 rfl (lv_at hl 1 rfl) ?_
          refine gM_15 E hK hP dX16_hoursOf_64 ?_
          refine lv_bipush hx hb dX16_hoursOf_67 bp_7 ?_
          refine lv_iload_n hx hb dX16_hoursOf_69 rfl (lv_at hl 2 rfl) ?_
          refine lv_imul hx hb dX16_hoursOf_70 ?_
          refine lv_iconst hx hb dX16_hoursOf_71 ic_2 ?_
          refine lv_iadd hx hb dX16_hoursOf_72 ?_
          obtain ⟨v12, hv12, hf⟩ := bdP hf
          refine p_iald hx hb hK hP dM_615 rfl hv12 dX16_hoursOf_73 ?_
          refine lv_aload_n hx hb dX16_hoursOf_74 rfl (lv_at hl 1 rfl) ?_
          refine gM_15 E hK hP dX16_hoursOf_75 ?_
          refine lv_bipush hx hb dX16_hoursOf_78 bp_7 ?_
          refine lv_iload_n hx hb dX16_hoursOf_80 rfl (lv_at hl 2 rfl) ?_
          refine lv_imul hx hb dX16_hoursOf_81 ?_
          refine lv_iconst hx hb dX16_hoursOf_82 ic_5 ?_
          refine lv_iadd hx hb dX16_hoursOf_83 ?_
          obtain ⟨v13, hv13, hf⟩ := bdP hf
          refine p_iald hx hb hK hP dM_615 rfl hv13 dX16_hoursOf_84 ?_
          refine lv_iadd hx hb dX16_hoursOf_85 ?_
          refine lv_goto (tgt := 90) hx hb dX16_hoursOf_86 (by decide) ?_
          cases hf
          rw [hQ]; exact p_iret hx hb hr hlk hK hP hS dX16_hoursOf_90
    · have hf := ifT c6 hf
      exact J27  hf H locs hP hS ls (lv_sub hl [1, 2] rfl)
theorem kM_hoursOf (l : Launch) (D : va_G) (G : Nat → ClassId) (ad : Nat → Nat) (σ : Sto) {x1 : Int32} {x2 : Int32} {r_ : Int32} (hf : mo_hoursOf (σ.2.2.1 615) (σ.2.2.1 624) x1 x2 = some r_) : CtI l D clsA G dscM ad yX16_hoursOf (ws_ yX16_hoursOf cX16_hoursOf 4 (Option.some Jvm.ClassFile.FieldType.int)) rmM_hoursOf [.ref (ad 500), .int x1, .int x2] σ r_ σ :=
  p_ctI (by decide +kernel) (Nat.le_of_ble_eq_true rfl) (fun p e s m below meth c0 ls A E hP hK hA hS hl => wkM_hoursOf E hK hA hf rfl hP hS hl)
theorem cM_hoursOf (E : EN p s m args meth c0 RX16 cc nL ret) (hK : KK D clsA G s) (hP : PM D G ad σ H) (hS : va_S A s.heap H locs) (hA : ∀ q, PA dscM ad s.heap.size q → A q) {x1 : Int32} {x2 : Int32} {r_ : Int32} {a_road : Nat → Int32} (e_aI615 : σ.2.2.1 615 = a_road) {a_three : Nat → Int32} (e_aI624 : σ.2.2.1 624 = a_three) (hu : mo_hoursOf a_road a_three x1 x2 = some r_) (hR : rmM_hoursOf.frames + 1 ≤ R.frames ∧ 8 + (4 + 11) + rmM_hoursOf.locals ≤ R.locals) (hcs : cells ≤ R.cells ∧ slots ≤ R.slots) (hsz : ls.size = nL) (hW : (rest.map fun v => v.category).sum ≤ 8) (hdg : decode cc pc = .ok (.invokevirtual 298, 3)) (kk : ∀ (H1 : Heap) (locs1 : List Loc), PM D G ad σ H1 → va_S A s.heap H1 locs1 → W p l e R s m args below meth c0 H1 locs1 cells slots Q (F0 m (pc + 3) ls (.int r_ :: rest))) : W p l e R s m args below meth c0 H locs cells slots Q (F0 m pc ls (.int x2 :: .int x1 :: .ref (ad 500) :: rest)) := by
  subst e_aI615
  subst e_aI624
  exact p_callI (As := [.int x1, .int x2]) (rest := rest) E.1 hK hP hS hA (kM_hoursOf l D G ad σ hu) (cwV 2 E.1.2.2.2.2 (lw_V q2027 q2029 qs85 q142 q2030) rfl rfl rfl (by decide +kernel) hR) dM_500 rfl rfl rfl hsz rfl hW hdg hcs kk
/-! hoursAs(III)I -/
abbrev rmM_hoursAs : Room := { frames := 2, cells := 0, slots := 0, locals := 45 }
set_option maxHeartbeats 4000000 in
theorem wkM_hoursAs {x1 : Int32} {x2 : Int32} {x3 : Int32} {r_ : Int32} (E : EN p s m args meth c0 RX16 cX16_hoursAs 5 (Option.some Jvm.ClassFile.FieldType.int)) (hK : KK D clsA G s) (hA : ∀ q, PA dscM ad s.heap.size q → A q) (hf : mo_hoursAs (σ.2.2.1 615) (σ.2.2.1 624) x1 x2 x3 = some r_) (hQ : Q = MQ below (va_Qi (fun x (_ : Unit) => x = r_) (fun _ t => PM D G ad σ t.heap ∧ KK D clsA G t) A) args s 0 0 A) (hP : PM D G ad σ H) (hS : va_S A s.heap H locs) (hl : lv_has ls 5 [(0, .ref (ad 500)), (1, .int x1), (2, .int x2), (3, .int x3)]) : W p l e rmM_hoursAs s m args below meth c0 H locs 0 0 Q (F0 m 0 ls []) := by
  obtain ⟨⟨hx, hb, hml, hown, hts⟩, hr, hlk⟩ := id E
  unfold mo_hoursAs at hf
  refine lv_aload_n hx hb dX16_hoursAs_0 rfl (lv_at hl 0 rfl) ?_
  refine gM_15 E hK hP dX16_hoursAs_1 ?_
  refine lv_bipush hx hb dX16_hoursAs_4 bp_7 ?_
  refine lv_iload_n hx hb dX16_hoursAs_6 rfl (lv_at hl 1 rfl) ?_
  refine lv_imul hx hb dX16_hoursAs_7 ?_
  refine lv_bipush hx hb dX16_hoursAs_8 bp_6 ?_
  refine lv_iadd hx hb dX16_hoursAs_10 ?_
  obtain ⟨v1, hv1, hf⟩ := bdP hf
  refine p_iald hx hb hK hP dM_615 rfl hv1 dX16_hoursAs_11 ?_
  refine lv_istore (lv' := [(4, .int v1), (0, .ref (ad 500)), (1, .int x1), (2, .int x2), (3, .int x3)]) hx hb dX16_hoursAs_12 hl (by decide) rfl (fun ls hl => ?_)
  refine lv_iload hx hb dX16_hoursAs_14 (lv_at hl 0 rfl) ?_
  have J29 : mo_hoursAs_J29 (σ.2.2.1 615) (σ.2.2.1 624) x1 x2 = some r_ → ∀ (H : Heap) (locs : List Loc), PM D G ad σ H → va_S A s.heap H locs → ∀ (ls : Array Slot), lv_has ls 5 [(0, .ref (ad 500)), (1, .int x1), (2, .int x2)] → W p l e rmM_hoursAs s m args below meth c0 H locs 0 0 Q (F0 m 29 ls []) := by
    intro  hf H locs hP hS ls hl
    unfold mo_hoursAs_J29 at hf
    refine lv_aload_n hx hb dX16_hoursAs_29 rfl (lv_at hl 0 rfl) ?_
    refine lv_iload_n hx hb dX16_hoursAs_30 rfl (lv_at hl 1 rfl) ?_
    refine lv_iload_n hx hb dX16_hoursAs_31 rfl (lv_at hl 2 rfl) ?_
    obtain ⟨v2, u3, hf⟩ := bdP hf
    refine cM_hoursOf E hK hP hS hA rfl rfl u3 ⟨Nat.le_of_ble_eq_true rfl, Nat.le_of_ble_eq_true rfl⟩ ⟨Nat.zero_le _, Nat.zero_le _⟩ hl.1 (Nat.le_of_ble_eq_true rfl) dX16_hoursAs_32 (fun H locs hP hS => ?_)
    cases hf
    rw [hQ]; exact p_iret hx hb hr hlk hK hP hS dX16_hoursAs_35
  refine lv_if_lt (tgt := 29) hx hb dX16_hoursAs_16 (by decide) (fun c4 => ?_) (fun c4 => ?_)
  · have hf := ifT c4 hf
    exact J29  hf H locs hP hS ls (lv_sub hl [1, 2, 3] rfl)
  · have hf := ifF c4 hf
    refine lv_aload_n hx hb dX16_hoursAs_19 rfl (lv_at hl 1 rfl) ?_
    refine lv_iload_n hx hb dX16_hoursAs_20 rfl (lv_at hl 3 rfl) ?_
    refine lv_iload hx hb dX16_hoursAs_21 (lv_at hl 0 rfl) ?_
    obtain ⟨v5, u6, hf⟩ := bdP hf
    refine cM_digit E hK hP hS hA rfl u6 ⟨Nat.le_of_ble_eq_true rfl, Nat.le_of_ble_eq_true rfl⟩ ⟨Nat.zero_le _, Nat.zero_le _⟩ hl.1 (Nat.le_of_ble_eq_true rfl) dX16_hoursAs_23 (fun H locs hP hS => ?_)
    refine lv_if_eq (tgt := 36) hx hb dX16_hoursAs_26 (by decide) (fun c7 => ?_) (fun c7 => ?_)
    · have hf := ifT c7 hf
      refine lv_iload_n hx hb dX16_hoursAs_36 rfl (lv_at hl 4 rfl) ?_
      refine lv_bipush hx hb dX16_hoursAs_37 bp_6 ?_
      have J48 : mo_hoursAs_J48 (σ.2.2.1 615) x1 = some r_ → ∀ (H : Heap) (locs : List Loc), PM D G ad σ H → va_S A s.heap H locs → ∀ (ls : Array Slot), lv_has ls 5 [(0, .ref (ad 500)), (1, .int x1)] → W p l e rmM_hoursAs s m args below meth c0 H locs 0 0 Q (F0 m 48 ls []) := by
        intro  hf H locs hP hS ls hl
        unfold mo_hoursAs_J48 at hf
        refine lv_aload_n hx hb dX16_hoursAs_48 rfl (lv_at hl 0 rfl) ?_
        refine gM_15 E hK hP dX16_hoursAs_49 ?_
        refine lv_bipush hx hb dX16_hoursAs_52 bp_7 ?_
        refine lv_iload_n hx hb dX16_hoursAs_54 rfl (lv_at hl 1 rfl) ?_
        refine lv_imul hx hb dX16_hoursAs_55 ?_
        refine lv_iconst hx hb dX16_hoursAs_56 ic_2 ?_
        refine lv_iadd hx hb dX16_hoursAs_57 ?_
        obtain ⟨v8, hv8, hf⟩ := bdP hf
        refine p_iald hx hb hK hP dM_615 rfl hv8 dX16_hoursAs_58 ?_
        cases hf
        rw [hQ]; exact p_iret hx hb hr hlk hK hP hS dX16_hoursAs_59
      refine lv_icmp_eq (tgt := 48) hx hb dX16_hoursAs_39 (by decide) (fun c9 => ?_) (fun c9 => ?_)
      · have hf := ifT c9 hf
        exact J48  hf H locs hP hS ls (lv_sub hl [1, 2] rfl)
      · have hf := ifF c9 hf
        refine lv_iload_n hx hb dX16_hoursAs_42 rfl (lv_at hl 4 rfl) ?_
        refine lv_iload hx hb dX16_hoursAs_43 (lv_at hl 0 rfl) ?_
        refine lv_icmp_ne (tgt := 60) hx hb dX16_hoursAs_45 (by decide) (fun c10 => ?_) (fun c10 => ?_)
        · have hf := ifF c10 hf
          refine lv_aload_n hx hb dX16_hoursAs_60 rfl (lv_at hl 1 rfl) ?_
          refine gM_15 E hK hP dX16_hoursAs_61 ?_
          refine lv_bipush hx hb dX16_hoursAs_64 bp_7 ?_
          refine lv_iload_n hx hb dX16_hoursAs_66 rfl (lv_at hl 2 rfl) ?_
          refine lv_imul hx hb dX16_hoursAs_67 ?_
          refine lv_iconst hx hb dX16_hoursAs_68 ic_5 ?_
          refine lv_iadd hx hb dX16_hoursAs_69 ?_
          obtain ⟨v11, hv11, hf⟩ := bdP hf
          refine p_iald hx hb hK hP dM_615 rfl hv11 dX16_hoursAs_70 ?_
          refine lv_if_le (tgt := 100) hx hb dX16_hoursAs_71 (by decide) (fun c12 => ?_) (fun c12 => ?_)
          · have hf := ifT c12 hf
            refine lv_iconst hx hb dX16_hoursAs_100 ic_m1 ?_
            cases hf
            rw [hQ]; exact p_iret hx hb hr hlk hK hP hS dX16_hoursAs_101
          · have hf := ifF c12 hf
            refine lv_aload_n hx hb dX16_hoursAs_74 rfl (lv_at hl 1 rfl) ?_
            refine gM_15 E hK hP dX16_hoursAs_75 ?_
            refine lv_bipush hx hb dX16_hoursAs_78 bp_7 ?_
            refine lv_iload_n hx hb dX16_hoursAs_80 rfl (lv_at hl 2 rfl) ?_
            refine lv_imul hx hb dX16_hoursAs_81 ?_
            refine lv_iconst hx hb dX16_hoursAs_82 ic_2 ?_
            refine lv_iadd hx hb dX16_hoursAs_83 ?_
            obtain ⟨v13, hv13, hf⟩ := bdP hf
            refine p_iald hx hb hK hP dM_615 rfl hv13 dX16_hoursAs_84 ?_
            refine lv_aload_n hx hb dX16_hoursAs_85 rfl (lv_at hl 1 rfl) ?_
            refine gM_15 E hK hP dX16_hoursAs_86 ?_
            refine lv_bipush hx hb dX16_hoursAs_89 bp_7 ?_
            refine lv_iload_n hx hb dX16_hoursAs_91 rfl (lv_at hl 2 rfl) ?_
            refine lv_imul hx hb dX16_hoursAs_92 ?_
            refine lv_iconst hx hb dX16_hoursAs_93 ic_5 ?_
            refine lv_iadd hx hb dX16_hoursAs_94 ?_
            obtain ⟨v14, hv14, hf⟩ := bdP hf
            refine p_iald hx hb hK hP dM_615 rfl hv14 dX16_hoursAs_95 ?_
            refine lv_iadd hx hb dX16_hoursAs_96 ?_
            refine lv_goto (tgt := 101) hx hb dX16_hoursAs_97 (by decide) ?_
            cases hf
            rw [hQ]; exact p_iret hx hb hr hlk hK hP hS dX16_hoursAs_101
        · have hf := ifT c10 hf
          exact J48  hf H locs hP hS ls (lv_sub hl [1, 2] rfl)
    · have hf := ifF c7 hf
      exact J29  hf H locs hP hS ls (lv_sub hl [1, 2, 3] rfl)
theorem kM_hoursAs (l : Launch) (D : va_G) (G : Nat → ClassId) (ad : Nat → Nat) (σ : Sto) {x1 : Int32} {x2 : Int32} {x3 : Int32} {r_ : Int32} (hf : mo_hoursAs (σ.2.2.1 615) (σ.2.2.1 624) x1 x2 x3 = some r_) : CtI l D clsA G dscM ad yX16_hoursAs (ws_ yX16_hoursAs cX16_hoursAs 5 (Option.some Jvm.ClassFile.FieldType.int)) rmM_hoursAs [.ref (ad 500), .int x1, .int x2, .int x3] σ r_ σ :=
  p_ctI (by decide +kernel) (Nat.le_of_ble_eq_true rfl) (fun p e s m below meth c0 ls A E hP hK hA hS hl => wkM_hoursAs E hK hA hf rfl hP hS hl)
theorem cM_hoursAs (E : EN p s m args meth c0 RX16 cc nL ret) (hK : KK D clsA G s) (hP : PM D G ad σ H) (hS : va_S A s.heap H locs) (hA : ∀ q, PA dscM ad s.heap.size q → A q) {x1 : Int32} {x2 : Int32} {x3 : Int32} {r_ : Int32} {a_road : Nat → Int32} (e_aI615 : σ.2.2.1 615 = a_road) {a_three : Nat → Int32} (e_aI624 : σ.2.2.1 624 = a_three) (hu : mo_hoursAs a_road a_three x1 x2 x3 = some r_) (hR : rmM_hoursAs.frames + 1 ≤ R.frames ∧ 8 + (5 + 11) + rmM_hoursAs.locals ≤ R.locals) (hcs : cells ≤ R.cells ∧ slots ≤ R.slots) (hsz : ls.size = nL) (hW : (rest.map fun v => v.category).sum ≤ 8) (hdg : decode cc pc = .ok (.invokevirtual 302, 3)) (kk : ∀ (H1 : Heap) (locs1 : List Loc), PM D G ad σ H1 → va_S A s.heap H1 locs1 → W p l e R s m args below meth c0 H1 locs1 cells slots Q (F0 m (pc + 3) ls (.int r_ :: rest))) : W p l e R s m args below meth c0 H locs cells slots Q (F0 m pc ls (.int x3 :: .int x2 :: .int x1 :: .ref (ad 500) :: rest)) := by
  subst e_aI615
  subst e_aI624
  exact p_callI (As := [.int x1, .int x2, .int x3]) (rest := rest) E.1 hK hP hS hA (kM_hoursAs l D G ad σ hu) (cwV 3 E.1.2.2.2.2 (lw_V q2023 q2025 qs84 q142 q2026) rfl rfl rfl (by decide +kernel) hR) dM_500 rfl rfl rfl hsz rfl hW hdg hcs kk
/-! places()I -/
abbrev rmM_places : Room := { frames := 0, cells := 0, slots := 0, locals := 0 }
set_option maxHeartbeats 4000000 in
theorem wkM_places  {r_ : Int32} (E : EN p s m args meth c0 RX16 cX16_places 1 (Option.some Jvm.ClassFile.FieldType.int)) (hK : KK D clsA G s) (hA : ∀ q, PA dscM ad s.heap.size q → A q) (hf : mo_places (σ.2.2.1 611) = some r_) (hQ : Q = MQ below (va_Qi (fun x (_ : Unit) => x = r_) (fun _ t => PM D G ad σ t.heap ∧ KK D clsA G t) A) args s 0 0 A) (hP : PM D G ad σ H) (hS : va_S A s.heap H locs) (hl : lv_has ls 1 [(0, .ref (ad 500))]) : W p l e rmM_places s m args below meth c0 H locs 0 0 Q (F0 m 0 ls []) := by
  obtain ⟨⟨hx, hb, hml, hown, hts⟩, hr, hlk⟩ := id E
  unfold mo_places at hf
  refine lv_aload_n hx hb dX16_places_0 rfl (lv_at hl 0 rfl) ?_
  refine gM_11 E hK hP dX16_places_1 ?_
  refine lv_iconst hx hb dX16_places_4 ic_0 ?_
  obtain ⟨v1, hv1, hf⟩ := bdP hf
  refine p_iald hx hb hK hP dM_611 rfl hv1 dX16_places_5 ?_
  cases hf
  rw [hQ]; exact p_iret hx hb hr hlk hK hP hS dX16_places_6
theorem kM_places (l : Launch) (D : va_G) (G : Nat → ClassId) (ad : Nat → Nat) (σ : Sto) {r_ : Int32} (hf : mo_places (σ.2.2.1 611) = some r_) : CtI l D clsA G dscM ad yX16_places (ws_ yX16_places cX16_places 1 (Option.some Jvm.ClassFile.FieldType.int)) rmM_places [.ref (ad 500)] σ r_ σ :=
  p_ctI (by decide +kernel) (Nat.le_of_ble_eq_true rfl) (fun p e s m below meth c0 ls A E hP hK hA hS hl => wkM_places E hK hA hf rfl hP hS hl)
theorem cM_places (E : EN p s m args meth c0 RX16 cc nL ret) (hK : KK D clsA G s) (hP : PM D G ad σ H) (hS : va_S A s.heap H locs) (hA : ∀ q, PA dscM ad s.heap.size q → A q) {r_ : Int32} {a_many : Nat → Int32} (e_aI611 : σ.2.2.1 611 = a_many) (hu : mo_places a_many = some r_) (hR : rmM_places.frames + 1 ≤ R.frames ∧ 8 + (1 + 11) + rmM_places.locals ≤ R.locals) (hcs : cells ≤ R.cells ∧ slots ≤ R.slots) (hsz : ls.size = nL) (hW : (rest.map fun v => v.category).sum ≤ 8) (hdg : decode cc pc = .ok (.invokevirtual 277, 3)) (kk : ∀ (H1 : Heap) (locs1 : List Loc), PM D G ad σ H1 → va_S A s.heap H1 locs1 → W p l e R s m args below meth c0 H1 locs1 cells slots Q (F0 m (pc + 3) ls (.int r_ :: rest))) : W p l e R s m args below meth c0 H locs cells slots Q (F0 m pc ls (.ref (ad 500) :: rest)) := by
  subst e_aI611
  exact p_callI (As := []) (rest := rest) E.1 hK hP hS hA (kM_places l D G ad σ hu) (cwV 0 E.1.2.2.2.2 (lw_V q2018 q2020 qs83 q142 q2021) rfl rfl rfl (by decide +kernel) hR) dM_500 rfl rfl rfl hsz rfl hW hdg hcs kk
/-! layFar(II)V -/
def sgM_layFar (σ : Sto) (w0 : Nat → Int32) : Sto := aI σ 629 w0
theorem sgM_layFar_self (σ : Sto) : sgM_layFar σ (σ.2.2.1 629) = σ := by
  unfold sgM_layFar
  simp only [zI_self, zL_self, aI_self, aL_self]
theorem sgM_layFar_aI629 {σ : Sto} {w0 : Nat → Int32} {g : Nat → Int32} : aI (sgM_layFar σ w0) 629 g = sgM_layFar σ g := aI_aI _ 629 _ _
theorem sgM_layFar_raI611 {σ : Sto} {w0 : Nat → Int32} : (sgM_layFar σ w0).2.2.1 611 = σ.2.2.1 611 := rfl
theorem sgM_layFar_raI615 {σ : Sto} {w0 : Nat → Int32} : (sgM_layFar σ w0).2.2.1 615 = σ.2.2.1 615 := rfl
theorem sgM_layFar_raI624 {σ : Sto} {w0 : Nat → Int32} : (sgM_layFar σ w0).2.2.1 624 = σ.2.2.1 624 := rfl
theorem sgM_layFar_raI629 {σ : Sto} {w0 : Nat → Int32} : (sgM_layFar σ w0).2.2.1 629 = w0 := rfl
abbrev rmM_layFar : Room := { frames := 3, cells := 0, slots := 0, locals := 69 }
set_option maxHeartbeats 4000000 in
theorem wkM_layFar {x1 : Int32} {x2 : Int32} {w_aI629 : Nat → Int32} (E : EN p s m args meth c0 RX16 cX16_layFar 8 (Option.none : Option Jvm.ClassFile.FieldType)) (hK : KK D clsA G s) (hA : ∀ q, PA dscM ad s.heap.size q → A q) (hf : mo_layFar (σ.2.2.1 611) (σ.2.2.1 615) (σ.2.2.1 624) (σ.2.2.1 629) x1 x2 = some w_aI629) (hQ : Q = MQ below (va_Qv (fun (_ : Unit) => True) (fun _ t => PM D G ad (sgM_layFar σ w_aI629) t.heap ∧ KK D clsA G t) A) args s 0 0 A) (hP : PM D G ad σ H) (hS : va_S A s.heap H locs) (hl : lv_has ls 8 [(0, .ref (ad 500)), (1, .int x1), (2, .int x2)]) : W p l e rmM_layFar s m args below meth c0 H locs 0 0 Q (F0 m 0 ls []) := by
  obtain ⟨⟨hx, hb, hml, hown, hts⟩, hr, hlk⟩ := id E
  have hP := hP.to (sgM_layFar_self σ).symm
  unfold mo_layFar at hf
  refine lv_iconst hx hb dX16_layFar_0 ic_0 ?_
  refine lv_istore_n (lv' := [(3, .int 0), (0, .ref (ad 500)), (1, .int x1), (2, .int x2)]) hx hb dX16_layFar_1 rfl hl (by decide) rfl (fun ls hl => ?_)
  have LP2 : ∀ (st2 : Int32 × (Nat → Int32)) (ex2 : ((Nat → Int32))), loop (mo_layFar_L2 (σ.2.2.1 611)) st2 = some ex2 → ∀ (H : Heap) (locs : List Loc), PM D G ad (sgM_layFar σ (st2.2)) H → va_S A s.heap H locs → ∀ (ls : Array Slot), lv_has ls 8 [(0, .ref (ad 500)), (1, .int x1), (2, .int x2), (3, .int (st2.1))] → (∀ (a12 : Nat → Int32), ex2 = a12 → ∀ (H : Heap) (locs : List Loc), PM D G ad (sgM_layFar σ a12) H → va_S A s.heap H locs → ∀ (ls : Array Slot), lv_has ls 8 [(0, .ref (ad 500)), (1, .int x1), (2, .int x2)] → W p l e rmM_layFar s m args below meth c0 H locs 0 0 Q (F0 m 40 ls [])) → W p l e rmM_layFar s m args below meth c0 H locs 0 0 Q (F0 m 2 ls []) := by
    refine loop_P (fun st2 ex2 o2 hf ih2 hx2 => ?_)
    obtain ⟨y1, a2⟩ := st2
    intro H locs (hP : PM D G ad (sgM_layFar σ a2) H) hS ls (hl : lv_has ls 8 [(0, .ref (ad 500)), (1, .int x1), (2, .int x2), (3, .int y1)]) KE2_0
    dsimp only [mo_layFar_L2] at hf
    refine lv_iload_n hx hb dX16_layFar_2 rfl (lv_at hl 3 rfl) ?_
    refine lv_aload_n hx hb dX16_layFar_3 rfl (lv_at hl 0 rfl) ?_
    obtain ⟨v3, u4, hf⟩ := bdP hf
    refine cM_places E hK hP hS hA sgM_layFar_raI611 u4 ⟨Nat.le_of_ble_eq_true rfl, Nat.le_of_ble_eq_true rfl⟩ ⟨Nat.zero_le _, Nat.zero_le _⟩ hl.1 (Nat.le_of_ble_eq_true rfl) dX16_layFar_4 (fun H locs hP hS => ?_)
    refine lv_icmp_ge (tgt := 40) hx hb dX16_layFar_7 (by decide) (fun c5 => ?_) (fun c5 => ?_)
    · have hf := ifT c5 hf
      exact KE2_0 _ (hx2 _ (Option.some.inj hf).symm).symm H locs hP hS ls (lv_sub hl [0, 1, 2] rfl)
    · have hf := ifF c5 hf
      refine lv_aload_n hx hb dX16_layFar_10 rfl (lv_at hl 0 rfl) ?_
      refine gM_29 E hK hP dX16_layFar_11 ?_
      refine lv_iload_n hx hb dX16_layFar_14 rfl (lv_at hl 3 rfl) ?_
      refine lv_iload_n hx hb dX16_layFar_15 rfl (lv_at hl 3 rfl) ?_
      refine lv_aload_n hx hb dX16_layFar_16 rfl (lv_at hl 0 rfl) ?_
      refine gM_11 E hK hP dX16_layFar_17 ?_
      refine lv_bipush hx hb dX16_layFar_20 bp_7 ?_
      obtain ⟨v6, hv6, hf⟩ := bdP hf
      refine p_iald hx hb hK hP dM_611 sgM_layFar_raI611 hv6 dX16_layFar_22 ?_
      have J33 : ∀ (k7 : Int32) (k8 : Int32), mo_layFar_J33 y1 a2 k7 k8 = some o2 → ∀ (H : Heap) (locs : List Loc), PM D G ad (sgM_layFar σ a2) H → va_S A s.heap H locs → ∀ (ls : Array Slot), lv_has ls 8 [(0, .ref (ad 500)), (1, .int x1), (2, .int x2), (3, .int y1)] → W p l e rmM_layFar s m args below meth c0 H locs 0 0 Q (F0 m 33 ls [.int k7, .int k8, .ref (ad 629)]) := by
        intro k7 k8 hf H locs hP hS ls hl
        unfold mo_layFar_J33 at hf
        obtain ⟨a9, ha9, hf⟩ := bdP hf
        refine p_iast hx hb hK hP hS (hA _ (PA_c dM_629)) dM_629 sgM_layFar_raI629 ha9 sgM_layFar_aI629 dX16_layFar_33 (fun H locs hP hS => ?_)
        obtain ⟨v10, hv10, hf⟩ := bdP hf
        refine lv_iinc (v := v10) (lv' := [(3, .int v10), (0, .ref (ad 500)), (1, .int x1), (2, .int x2)]) hx hb dX16_layFar_34 hl (k := 3) rfl (Option.some.inj hv10) (by decide) rfl (fun ls hl => ?_)
        refine lv_goto (tgt := 2) hx hb dX16_layFar_37 (by decide) ?_
        exact ih2 _ (Option.some.inj hf).symm H locs hP hS ls (lv_sub hl [1, 2, 3, 0] rfl) KE2_0
      refine lv_icmp_ne (tgt := 30) hx hb dX16_layFar_23 (by decide) (fun c11 => ?_) (fun c11 => ?_)
      · have hf := ifF c11 hf
        refine lv_ldcw hx hb hown (hts _ q2022) dX16_layFar_30 ?_
        exact J33 1000000 y1 hf H locs hP hS ls (lv_sub hl [0, 1, 2, 3] rfl)
      · have hf := ifT c11 hf
        refine lv_iconst hx hb dX16_layFar_26 ic_0 ?_
        refine lv_goto (tgt := 33) hx hb dX16_layFar_27 (by decide) ?_
        exact J33 0 y1 hf H locs hP hS ls (lv_sub hl [0, 1, 2, 3] rfl)
  obtain ⟨ex2, hlp2, hf⟩ := bdP hf
  refine LP2 (0, (σ.2.2.1 629)) ex2 hlp2 H locs hP hS ls (lv_sub hl [1, 2, 3, 0] rfl) ?_
  intro a12 hex2 H locs hP hS ls hl
  subst ex2
  refine lv_iconst hx hb dX16_layFar_40 ic_0 ?_
  refine lv_istore_n (lv' := [(3, .int 0), (0, .ref (ad 500)), (1, .int x1), (2, .int x2)]) hx hb dX16_layFar_41 rfl hl (by decide) rfl (fun ls hl => ?_)
  have LP42 : ∀ (st42 : Int32 × (Nat → Int32)) (ex42 : ((Nat → Int32))), loop (mo_layFar_L42 (σ.2.2.1 611) (σ.2.2.1 615) (σ.2.2.1 624) x1 x2) st42 = some ex42 → ∀ (H : Heap) (locs : List Loc), PM D G ad (sgM_layFar σ (st42.2)) H → va_S A s.heap H locs → ∀ (ls : Array Slot), lv_has ls 8 [(0, .ref (ad 500)), (1, .int x1), (2, .int x2), (3, .int (st42.1))] → (∀ (a42 : Nat → Int32), ex42 = a42 → ∀ (H : Heap) (locs : List Loc), PM D G ad (sgM_layFar σ a42) H → va_S A s.heap H locs → ∀ (ls : Array Slot), lv_has ls 8 [] → W p l e rmM_layFar s m args below meth c0 H locs 0 0 Q (F0 m 194 ls [])) → W p l e rmM_layFar s m args below meth c0 H locs 0 0 Q (F0 m 42 ls []) := by
    refine loop_P (fun st42 ex42 o42 hf ih42 hx42 => ?_)
    obtain ⟨y13, a14⟩ := st42
    intro H locs (hP : PM D G ad (sgM_layFar σ a14) H) hS ls (hl : lv_has ls 8 [(0, .ref (ad 500)), (1, .int x1), (2, .int x2), (3, .int y13)]) KE42_0
    dsimp only [mo_layFar_L42] at hf
    refine lv_iload_n hx hb dX16_layFar_42 rfl (lv_at hl 3 rfl) ?_
    refine lv_aload_n hx hb dX16_layFar_43 rfl (lv_at hl 0 rfl) ?_
    obtain ⟨v15, u16, hf⟩ := bdP hf
    refine cM_places E hK hP hS hA sgM_layFar_raI611 u16 ⟨Nat.le_of_ble_eq_true rfl, Nat.le_of_ble_eq_true rfl⟩ ⟨Nat.zero_le _, Nat.zero_le _⟩ hl.1 (Nat.le_of_ble_eq_true rfl) dX16_layFar_44 (fun H locs hP hS => ?_)
    refine lv_icmp_ge (tgt := 194) hx hb dX16_layFar_47 (by decide) (fun c17 => ?_) (fun c17 => ?_)
    · have hf := ifT c17 hf
      exact KE42_0 _ (hx42 _ (Option.some.inj hf).symm).symm H locs hP hS ls (lv_sub hl [] rfl)
    · have hf := ifF c17 hf
      refine lv_iconst hx hb dX16_layFar_50 ic_0 ?_
      refine lv_istore (lv' := [(4, .int 0), (0, .ref (ad 500)), (1, .int x1), (2, .int x2), (3, .int y13)]) hx hb dX16_layFar_51 hl (by decide) rfl (fun ls hl => ?_)
      have LP53 : ∀ (st53 : Int32 × (Nat → Int32)) (ex53 : ((Nat → Int32))), loop (mo_layFar_L53 (σ.2.2.1 611) (σ.2.2.1 615) (σ.2.2.1 624) x1 x2) st53 = some ex53 → ∀ (H : Heap) (locs : List Loc), PM D G ad (sgM_layFar σ (st53.2)) H → va_S A s.heap H locs → ∀ (ls : Array Slot), lv_has ls 8 [(0, .ref (ad 500)), (1, .int x1), (2, .int x2), (3, .int y13), (4, .int (st53.1))] → (∀ (a40 : Nat → Int32), ex53 = a40 → ∀ (H : Heap) (locs : List Loc), PM D G ad (sgM_layFar σ a40) H → va_S A s.heap H locs → ∀ (ls : Array Slot), lv_has ls 8 [(0, .ref (ad 500)), (1, .int x1), (2, .int x2), (3, .int y13)] → W p l e rmM_layFar s m args below meth c0 H locs 0 0 Q (F0 m 188 ls [])) → W p l e rmM_layFar s m args below meth c0 H locs 0 0 Q (F0 m 53 ls []) := by
        refine loop_P (fun st53 ex53 o53 hf ih53 hx53 => ?_)
        obtain ⟨y18, a19⟩ := st53
        intro H locs (hP : PM D G ad (sgM_layFar σ a19) H) hS ls (hl : lv_has ls 8 [(0, .ref (ad 500)), (1, .int x1), (2, .int x2), (3, .int y13), (4, .int y18)]) KE53_0
        dsimp only [mo_layFar_L53] at hf
        refine lv_iload hx hb dX16_layFar_53 (lv_at hl 4 rfl) ?_
        refine lv_aload_n hx hb dX16_layFar_55 rfl (lv_at hl 0 rfl) ?_
        refine gM_11 E hK hP dX16_layFar_56 ?_
        refine lv_iconst hx hb dX16_layFar_59 ic_2 ?_
        obtain ⟨v20, hv20, hf⟩ := bdP hf
        refine p_iald hx hb hK hP dM_611 sgM_layFar_raI611 hv20 dX16_layFar_60 ?_
        refine lv_icmp_ge (tgt := 188) hx hb dX16_layFar_61 (by decide) (fun c21 => ?_) (fun c21 => ?_)
        · have hf := ifT c21 hf
          exact KE53_0 _ (hx53 _ (Option.some.inj hf).symm).symm H locs hP hS ls (lv_sub hl [0, 1, 2, 3] rfl)
        · have hf := ifF c21 hf
          refine lv_aload_n hx hb dX16_layFar_64 rfl (lv_at hl 0 rfl) ?_
          refine lv_iload hx hb dX16_layFar_65 (lv_at hl 4 rfl) ?_
          refine lv_iload_n hx hb dX16_layFar_67 rfl (lv_at hl 1 rfl) ?_
          refine lv_iload_n hx hb dX16_layFar_68 rfl (lv_at hl 2 rfl) ?_
          obtain ⟨v22, u23, hf⟩ := bdP hf
          refine cM_hoursAs E hK hP hS hA sgM_layFar_raI615 sgM_layFar_raI624 u23 ⟨Nat.le_of_ble_eq_true rfl, Nat.le_of_ble_eq_true rfl⟩ ⟨Nat.zero_le _, Nat.zero_le _⟩ hl.1 (Nat.le_of_ble_eq_true rfl) dX16_layFar_69 (fun H locs hP hS => ?_)
          refine lv_istore (lv' := [(5, .int v22), (0, .ref (ad 500)), (1, .int x1), (2, .int x2), (3, .int y13), (4, .int y18)]) hx hb dX16_layFar_72 hl (by decide) rfl (fun ls hl => ?_)
          refine lv_iload hx hb dX16_layFar_74 (lv_at hl 0 rfl) ?_
          have J182 : ∀ (a24 : Nat → Int32), mo_layFar_J182 y18 a24 = some o53 → ∀ (H : Heap) (locs : List Loc), PM D G ad (sgM_layFar σ a24) H → va_S A s.heap H locs → ∀ (ls : Array Slot), lv_has ls 8 [(0, .ref (ad 500)), (1, .int x1), (2, .int x2), (3, .int y13), (4, .int y18)] → W p l e rmM_layFar s m args below meth c0 H locs 0 0 Q (F0 m 182 ls []) := by
            intro a24 hf H locs hP hS ls hl
            unfold mo_layFar_J182 at hf
            obtain ⟨v25, hv25, hf⟩ := bdP hf
            refine lv_iinc (v := v25) (lv' := [(4, .int v25), (0, .ref (ad 500)), (1, .int x1), (2, .int x2), (3, .int y13)]) hx hb dX16_layFar_182 hl (k := 4) rfl (Option.some.inj hv25) (by decide) rfl (fun ls hl => ?_)
            refine lv_goto (tgt := 53) hx hb dX16_layFar_185 (by decide) ?_
            exact ih53 _ (Option.some.inj hf).symm H locs hP hS ls (lv_sub hl [1, 2, 3, 4, 0] rfl) KE53_0
          refine lv_if_ge (tgt := 82) hx hb dX16_layFar_76 (by decide) (fun c26 => ?_) (fun c26 => ?_)
          · have hf := ifT c26 hf
            refine lv_aload_n hx hb dX16_layFar_82 rfl (lv_at hl 1 rfl) ?_
            refine gM_15 E hK hP dX16_layFar_83 ?_
            refine lv_bipush hx hb dX16_layFar_86 bp_7 ?_
            refine lv_iload hx hb dX16_layFar_88 (lv_at hl 5 rfl) ?_
            refine lv_imul hx hb dX16_layFar_90 ?_
            obtain ⟨v27, hv27, hf⟩ := bdP hf
            refine p_iald hx hb hK hP dM_615 sgM_layFar_raI615 hv27 dX16_layFar_91 ?_
            refine lv_istore (lv' := [(6, .int v27), (5, .int v22), (0, .ref (ad 500)), (1, .int x1), (2, .int x2), (3, .int y13), (4, .int y18)]) hx hb dX16_layFar_92 hl (by decide) rfl (fun ls hl => ?_)
            refine lv_aload_n hx hb dX16_layFar_94 rfl (lv_at hl 2 rfl) ?_
            refine gM_15 E hK hP dX16_layFar_95 ?_
            refine lv_bipush hx hb dX16_layFar_98 bp_7 ?_
            refine lv_iload hx hb dX16_layFar_100 (lv_at hl 6 rfl) ?_
            refine lv_imul hx hb dX16_layFar_102 ?_
            refine lv_iconst hx hb dX16_layFar_103 ic_1 ?_
            refine lv_iadd hx hb dX16_layFar_104 ?_
            obtain ⟨v28, hv28, hf⟩ := bdP hf
            refine p_iald hx hb hK hP dM_615 sgM_layFar_raI615 hv28 dX16_layFar_105 ?_
            refine lv_istore (lv' := [(7, .int v28), (6, .int v27), (5, .int v22), (0, .ref (ad 500)), (1, .int x1), (2, .int x2), (3, .int y13), (4, .int y18)]) hx hb dX16_layFar_106 hl (by decide) rfl (fun ls hl => ?_)
            refine lv_aload_n hx hb dX16_layFar_108 rfl (lv_at hl 3 rfl) ?_
            refine gM_29 E hK hP dX16_layFar_109 ?_
            refine lv_iload hx hb dX16_layFar_112 (lv_at hl 0 rfl) ?_
            obtain ⟨v29, hv29, hf⟩ := bdP hf
            refine p_iald hx hb hK hP dM_629 sgM_layFar_raI629 hv29 dX16_layFar_114 ?_
            refine lv_iload hx hb dX16_layFar_115 (lv_at hl 2 rfl) ?_
            refine lv_iadd hx hb dX16_layFar_117 ?_
            refine lv_aload_n hx hb dX16_layFar_118 rfl (lv_at hl 3 rfl) ?_
            refine gM_29 E hK hP dX16_layFar_119 ?_
            refine lv_iload hx hb dX16_layFar_122 (lv_at hl 1 rfl) ?_
            obtain ⟨v30, hv30, hf⟩ := bdP hf
            refine p_iald hx hb hK hP dM_629 sgM_layFar_raI629 hv30 dX16_layFar_124 ?_
            have J145 : ∀ (a31 : Nat → Int32), mo_layFar_J145 y18 v22 v27 v28 a31 = some o53 → ∀ (H : Heap) (locs : List Loc), PM D G ad (sgM_layFar σ a31) H → va_S A s.heap H locs → ∀ (ls : Array Slot), lv_has ls 8 [(0, .ref (ad 500)), (1, .int x1), (2, .int x2), (3, .int y13), (4, .int y18), (5, .int v22), (6, .int v27), (7, .int v28)] → W p l e rmM_layFar s m args below meth c0 H locs 0 0 Q (F0 m 145 ls []) := by
              intro a31 hf H locs hP hS ls hl
              unfold mo_layFar_J145 at hf
              refine lv_aload_n hx hb dX16_layFar_145 rfl (lv_at hl 0 rfl) ?_
              refine gM_29 E hK hP dX16_layFar_146 ?_
              refine lv_iload hx hb dX16_layFar_149 (lv_at hl 6 rfl) ?_
              obtain ⟨v32, hv32, hf⟩ := bdP hf
              refine p_iald hx hb hK hP dM_629 sgM_layFar_raI629 hv32 dX16_layFar_151 ?_
              refine lv_iload hx hb dX16_layFar_152 (lv_at hl 5 rfl) ?_
              refine lv_iadd hx hb dX16_layFar_154 ?_
              refine lv_aload_n hx hb dX16_layFar_155 rfl (lv_at hl 0 rfl) ?_
              refine gM_29 E hK hP dX16_layFar_156 ?_
              refine lv_iload hx hb dX16_layFar_159 (lv_at hl 7 rfl) ?_
              obtain ⟨v33, hv33, hf⟩ := bdP hf
              refine p_iald hx hb hK hP dM_629 sgM_layFar_raI629 hv33 dX16_layFar_161 ?_
              refine lv_icmp_ge (tgt := 182) hx hb dX16_layFar_162 (by decide) (fun c34 => ?_) (fun c34 => ?_)
              · have hf := ifT c34 hf
                exact J182 a31 hf H locs hP hS ls (lv_sub hl [0, 1, 2, 3, 4] rfl)
              · have hf := ifF c34 hf
                refine lv_aload_n hx hb dX16_layFar_165 rfl (lv_at hl 0 rfl) ?_
                refine gM_29 E hK hP dX16_layFar_166 ?_
                refine lv_iload hx hb dX16_layFar_169 (lv_at hl 7 rfl) ?_
                refine lv_aload_n hx hb dX16_layFar_171 rfl (lv_at hl 0 rfl) ?_
                refine gM_29 E hK hP dX16_layFar_172 ?_
                refine lv_iload hx hb dX16_layFar_175 (lv_at hl 6 rfl) ?_
                obtain ⟨v35, hv35, hf⟩ := bdP hf
                refine p_iald hx hb hK hP dM_629 sgM_layFar_raI629 hv35 dX16_layFar_177 ?_
                refine lv_iload hx hb dX16_layFar_178 (lv_at hl 5 rfl) ?_
                refine lv_iadd hx hb dX16_layFar_180 ?_
                obtain ⟨a36, ha36, hf⟩ := bdP hf
                refine p_iast hx hb hK hP hS (hA _ (PA_c dM_629)) dM_629 sgM_layFar_raI629 ha36 sgM_layFar_aI629 dX16_layFar_181 (fun H locs hP hS => ?_)
                exact J182 a36 hf H locs hP hS ls (lv_sub hl [0, 1, 2, 3, 4] rfl)
            refine lv_icmp_ge (tgt := 145) hx hb dX16_layFar_125 (by decide) (fun c37 => ?_) (fun c37 => ?_)
            · have hf := ifT c37 hf
              exact J145 a19 hf H locs hP hS ls (lv_sub hl [3, 4, 5, 6, 7, 2, 1, 0] rfl)
            · have hf := ifF c37 hf
              refine lv_aload_n hx hb dX16_layFar_128 rfl (lv_at hl 3 rfl) ?_
              refine gM_29 E hK hP dX16_layFar_129 ?_
              refine lv_iload hx hb dX16_layFar_132 (lv_at hl 1 rfl) ?_
              refine lv_aload_n hx hb dX16_layFar_134 rfl (lv_at hl 3 rfl) ?_
              refine gM_29 E hK hP dX16_layFar_135 ?_
              refine lv_iload hx hb dX16_layFar_138 (lv_at hl 0 rfl) ?_
              obtain ⟨v38, hv38, hf⟩ := bdP hf
              refine p_iald hx hb hK hP dM_629 sgM_layFar_raI629 hv38 dX16_layFar_140 ?_
              refine lv_iload hx hb dX16_layFar_141 (lv_at hl 2 rfl) ?_
              refine lv_iadd hx hb dX16_layFar_143 ?_
              obtain ⟨a39, ha39, hf⟩ := bdP hf
              refine p_iast hx hb hK hP hS (hA _ (PA_c dM_629)) dM_629 sgM_layFar_raI629 ha39 sgM_layFar_aI629 dX16_layFar_144 (fun H locs hP hS => ?_)
              exact J145 a39 hf H locs hP hS ls (lv_sub hl [3, 4, 5, 6, 7, 2, 1, 0] rfl)
          · have hf := ifF c26 hf
            refine lv_goto (tgt := 182) hx hb dX16_layFar_79 (by decide) ?_
            exact J182 a19 hf H locs hP hS ls (lv_sub hl [1, 2, 3, 4, 5] rfl)
      obtain ⟨ex53, hlp53, hf⟩ := bdP hf
      refine LP53 (0, a14) ex53 hlp53 H locs hP hS ls (lv_sub hl [1, 2, 3, 4, 0] rfl) ?_
      intro a40 hex53 H locs hP hS ls hl
      subst ex53
      obtain ⟨v41, hv41, hf⟩ := bdP hf
      refine lv_iinc (v := v41) (lv' := [(3, .int v41), (0, .ref (ad 500)), (1, .int x1), (2, .int x2)]) hx hb dX16_layFar_188 hl (k := 3) rfl (Option.some.inj hv41) (by decide) rfl (fun ls hl => ?_)
      refine lv_goto (tgt := 42) hx hb dX16_layFar_191 (by decide) ?_
      exact ih42 _ (Option.some.inj hf).symm H locs hP hS ls (lv_sub hl [1, 2, 3, 0] rfl) KE42_0
  obtain ⟨ex42, hlp42, hf⟩ := bdP hf
  refine LP42 (0, a12) ex42 hlp42 H locs hP hS ls (lv_sub hl [1, 2, 3, 0] rfl) ?_
  intro a42 hex42 H locs hP hS ls hl
  subst ex42
  cases hf
  rw [hQ]; exact p_vret hx hb hr hlk hK hP hS dX16_layFar_194
theorem kM_layFar (l : Launch) (D : va_G) (G : Nat → ClassId) (ad : Nat → Nat) (σ : Sto) {x1 : Int32} {x2 : Int32} {w_aI629 : Nat → Int32} (hf : mo_layFar (σ.2.2.1 611) (σ.2.2.1 615) (σ.2.2.1 624) (σ.2.2.1 629) x1 x2 = some w_aI629) : CtV l D clsA G dscM ad yX16_layFar (ws_ yX16_layFar cX16_layFar 8 (Option.none : Option Jvm.ClassFile.FieldType)) rmM_layFar [.ref (ad 500), .int x1, .int x2] σ (sgM_layFar σ w_aI629) :=
  p_ctV (by decide +kernel) (Nat.le_of_ble_eq_true rfl) (fun p e s m below meth c0 ls A E hP hK hA hS hl => wkM_layFar E hK hA hf rfl hP hS hl)
theorem cM_layFar (E : EN p s m args meth c0 RX16 cc nL ret) (hK : KK D clsA G s) (hP : PM D G ad σ H) (hS : va_S A s.heap H locs) (hA : ∀ q, PA dscM ad s.heap.size q → A q) {x1 : Int32} {x2 : Int32} {w_aI629 : Nat → Int32} {a_many : Nat → Int32} (e_aI611 : σ.2.2.1 611 = a_many) {a_road : Nat → Int32} (e_aI615 : σ.2.2.1 615 = a_road) {a_three : Nat → Int32} (e_aI624 : σ.2.2.1 624 = a_three) {a_far : Nat → Int32} (e_aI629 : σ.2.2.1 629 = a_far) (hu : mo_layFar a_many a_road a_three a_far x1 x2 = some w_aI629) (hR : rmM_layFar.frames + 1 ≤ R.frames ∧ 8 + (8 + 11) + rmM_layFar.locals ≤ R.locals) (hcs : cells ≤ R.cells ∧ slots ≤ R.slots) (hsz : ls.size = nL) (hW : (rest.map fun v => v.category).sum ≤ 8) (hdg : decode cc pc = .ok (.invokevirtual 309, 3)) (kk : ∀ (H1 : Heap) (locs1 : List Loc), PM D G ad (aI σ 629 w_aI629) H1 → va_S A s.heap H1 locs1 → W p l e R s m args below meth c0 H1 locs1 cells slots Q (F0 m (pc + 3) ls rest)) : W p l e R s m args below meth c0 H locs cells slots Q (F0 m pc ls (.int x2 :: .int x1 :: .ref (ad 500) :: rest)) := by
  subst e_aI611
  subst e_aI615
  subst e_aI624
  subst e_aI629
  exact p_callV (As := [.int x1, .int x2]) (rest := rest) E.1 hK hP hS hA (kM_layFar l D G ad σ hu) (cwV 2 E.1.2.2.2.2 (lw_V q2014 q2016 qs82 q142 q2017) rfl rfl rfl (by decide +kernel) hR) dM_500 rfl rfl rfl hsz rfl hW hdg hcs kk
/-! knowingOf(I)I -/
def sgM_knowingOf (σ : Sto) (w0 : Nat → Int32) : Sto := aI σ 629 w0
theorem sgM_knowingOf_self (σ : Sto) : sgM_knowingOf σ (σ.2.2.1 629) = σ := by
  unfold sgM_knowingOf
  simp only [zI_self, zL_self, aI_self, aL_self]
theorem sgM_knowingOf_aI629 {σ : Sto} {w0 : Nat → Int32} {g : Nat → Int32} : aI (sgM_knowingOf σ w0) 629 g = sgM_knowingOf σ g := aI_aI _ 629 _ _
theorem sgM_knowingOf_raI611 {σ : Sto} {w0 : Nat → Int32} : (sgM_knowingOf σ w0).2.2.1 611 = σ.2.2.1 611 := rfl
theorem sgM_knowingOf_raI615 {σ : Sto} {w0 : Nat → Int32} : (sgM_knowingOf σ w0).2.2.1 615 = σ.2.2.1 615 := rfl
theorem sgM_knowingOf_raI624 {σ : Sto} {w0 : Nat → Int32} : (sgM_knowingOf σ w0).2.2.1 624 = σ.2.2.1 624 := rfl
theorem sgM_knowingOf_raI629 {σ : Sto} {w0 : Nat → Int32} : (sgM_knowingOf σ w0).2.2.1 629 = w0 := rfl
abbrev rmM_knowingOf : Room := { frames := 4, cells := 0, slots := 0, locals := 96 }
set_option maxHeartbeats 4000000 in
theorem wkM_knowingOf {x1 : Int32} {r_ : Int32} {w_aI629 : Nat → Int32} (E : EN p s m args meth c0 RX16 cX16_knowingOf 2 (Option.some Jvm.ClassFile.FieldType.int)) (hK : KK D clsA G s) (hA : ∀ q, PA dscM ad s.heap.size q → A q) (hf : mo_knowingOf (σ.2.2.1 611) (σ.2.2.1 615) (σ.2.2.1 624) (σ.2.2.1 629) x1 = some (r_, w_aI629)) (hQ : Q = MQ below (va_Qi (fun x (_ : Unit) => x = r_) (fun _ t => PM D G ad (sgM_knowingOf σ w_aI629) t.heap ∧ KK D clsA G t) A) args s 0 0 A) (hP : PM D G ad σ H) (hS : va_S A s.heap H locs) (hl : lv_has ls 2 [(0, .ref (ad 500)), (1, .int x1)]) : W p l e rmM_knowingOf s m args below meth c0 H locs 0 0 Q (F0 m 0 ls []) := by
  obtain ⟨⟨hx, hb, hml, hown, hts⟩, hr, hlk⟩ := id E
  have hP := hP.to (sgM_knowingOf_self σ).symm
  unfold mo_knowingOf at hf
  refine lv_aload_n hx hb dX16_knowingOf_0 rfl (lv_at hl 0 rfl) ?_
  refine lv_aload_n hx hb dX16_knowingOf_1 rfl (lv_at hl 0 rfl) ?_
  refine lv_iload_n hx hb dX16_knowingOf_2 rfl (lv_at hl 1 rfl) ?_
  obtain ⟨v1, u2, hf⟩ := bdP hf
  refine cM_fullOf E hK hP hS hA sgM_knowingOf_raI611 sgM_knowingOf_raI624 u2 ⟨Nat.le_of_ble_eq_true rfl, Nat.le_of_ble_eq_true rfl⟩ ⟨Nat.zero_le _, Nat.zero_le _⟩ hl.1 (Nat.le_of_ble_eq_true rfl) dX16_knowingOf_3 (fun H locs hP hS => ?_)
  refine lv_iconst hx hb dX16_knowingOf_6 ic_m1 ?_
  obtain ⟨a3, u4, hf⟩ := bdP hf
  refine cM_layFar E hK hP hS hA sgM_knowingOf_raI611 sgM_knowingOf_raI615 sgM_knowingOf_raI624 sgM_knowingOf_raI629 u4 ⟨Nat.le_of_ble_eq_true rfl, Nat.le_of_ble_eq_true rfl⟩ ⟨Nat.zero_le _, Nat.zero_le _⟩ hl.1 (Nat.le_of_ble_eq_true rfl) dX16_knowingOf_7 (fun H locs hP hS => ?_)
  rw [sgM_knowingOf_aI629] at hP
  refine lv_aload_n hx hb dX16_knowingOf_10 rfl (lv_at hl 0 rfl) ?_
  refine gM_29 E hK hP dX16_knowingOf_11 ?_
  refine lv_aload_n hx hb dX16_knowingOf_14 rfl (lv_at hl 0 rfl) ?_
  refine gM_11 E hK hP dX16_knowingOf_15 ?_
  refine lv_bipush hx hb dX16_knowingOf_18 bp_6 ?_
  obtain ⟨v5, hv5, hf⟩ := bdP hf
  refine p_iald hx hb hK hP dM_611 sgM_knowingOf_raI611 hv5 dX16_knowingOf_20 ?_
  obtain ⟨v6, hv6, hf⟩ := bdP hf
  refine p_iald hx hb hK hP dM_629 sgM_knowingOf_raI629 hv6 dX16_knowingOf_21 ?_
  refine lv_ldcw hx hb hown (hts _ q2022) dX16_knowingOf_22 ?_
  refine lv_icmp_lt (tgt := 33) hx hb dX16_knowingOf_25 (by decide) (fun c7 => ?_) (fun c7 => ?_)
  · have hf := ifT c7 hf
    refine lv_aload_n hx hb dX16_knowingOf_33 rfl (lv_at hl 0 rfl) ?_
    refine gM_29 E hK hP dX16_knowingOf_34 ?_
    refine lv_aload_n hx hb dX16_knowingOf_37 rfl (lv_at hl 0 rfl) ?_
    refine gM_11 E hK hP dX16_knowingOf_38 ?_
    refine lv_bipush hx hb dX16_knowingOf_41 bp_6 ?_
    obtain ⟨v8, hv8, hf⟩ := bdP hf
    refine p_iald hx hb hK hP dM_611 sgM_knowingOf_raI611 hv8 dX16_knowingOf_43 ?_
    obtain ⟨v9, hv9, hf⟩ := bdP hf
    refine p_iald hx hb hK hP dM_629 sgM_knowingOf_raI629 hv9 dX16_knowingOf_44 ?_
    cases hf
    rw [hQ]; exact p_iret hx hb hr hlk hK hP hS dX16_knowingOf_45
  · have hf := ifF c7 hf
    refine lv_bipush hx hb dX16_knowingOf_28 bp_m2 ?_
    refine lv_goto (tgt := 45) hx hb dX16_knowingOf_30 (by decide) ?_
    cases hf
    rw [hQ]; exact p_iret hx hb hr hlk hK hP hS dX16_knowingOf_45
theorem kM_knowingOf (l : Launch) (D : va_G) (G : Nat → ClassId) (ad : Nat → Nat) (σ : Sto) {x1 : Int32} {r_ : Int32} {w_aI629 : Nat → Int32} (hf : mo_knowingOf (σ.2.2.1 611) (σ.2.2.1 615) (σ.2.2.1 624) (σ.2.2.1 629) x1 = some (r_, w_aI629)) : CtI l D clsA G dscM ad yX16_knowingOf (ws_ yX16_knowingOf cX16_knowingOf 2 (Option.some Jvm.ClassFile.FieldType.int)) rmM_knowingOf [.ref (ad 500), .int x1] σ r_ (sgM_knowingOf σ w_aI629) :=
  p_ctI (by decide +kernel) (Nat.le_of_ble_eq_true rfl) (fun p e s m below meth c0 ls A E hP hK hA hS hl => wkM_knowingOf E hK hA hf rfl hP hS hl)
theorem cM_knowingOf (E : EN p s m args meth c0 RX16 cc nL ret) (hK : KK D clsA G s) (hP : PM D G ad σ H) (hS : va_S A s.heap H locs) (hA : ∀ q, PA dscM ad s.heap.size q → A q) {x1 : Int32} {r_ : Int32} {w_aI629 : Nat → Int32} {a_many : Nat → Int32} (e_aI611 : σ.2.2.1 611 = a_many) {a_road : Nat → Int32} (e_aI615 : σ.2.2.1 615 = a_road) {a_three : Nat → Int32} (e_aI624 : σ.2.2.1 624 = a_three) {a_far : Nat → Int32} (e_aI629 : σ.2.2.1 629 = a_far) (hu : mo_knowingOf a_many a_road a_three a_far x1 = some (r_, w_aI629)) (hR : rmM_knowingOf.frames + 1 ≤ R.frames ∧ 8 + (2 + 11) + rmM_knowingOf.locals ≤ R.locals) (hcs : cells ≤ R.cells ∧ slots ≤ R.slots) (hsz : ls.size = nL) (hW : (rest.map fun v => v.category).sum ≤ 8) (hdg : decode cc pc = .ok (.invokevirtual 315, 3)) (kk : ∀ (H1 : Heap) (locs1 : List Loc), PM D G ad (aI σ 629 w_aI629) H1 → va_S A s.heap H1 locs1 → W p l e R s m args below meth c0 H1 locs1 cells slots Q (F0 m (pc + 3) ls (.int r_ :: rest))) : W p l e R s m args below meth c0 H locs cells slots Q (F0 m pc ls (.int x1 :: .ref (ad 500) :: rest)) := by
  subst e_aI611
  subst e_aI615
  subst e_aI624
  subst e_aI629
  exact p_callI (As := [.int x1]) (rest := rest) E.1 hK hP hS hA (kM_knowingOf l D G ad σ hu) (cwV 1 E.1.2.2.2.2 (lw_V q2006 q2008 qs80 q142 q2009) rfl rfl rfl (by decide +kernel) hR) dM_500 rfl rfl rfl hsz rfl hW hdg hcs kk
/-! knowing(I)I -/
def sgM_knowing (σ : Sto) (w0 : Int32) (w1 : Nat → Int32) : Sto := aI (zI σ 502 w0) 629 w1
theorem sgM_knowing_self (σ : Sto) : sgM_knowing σ (σ.1 502) (σ.2.2.1 629) = σ := by
  unfold sgM_knowing
  simp only [zI_self, zL_self, aI_self, aL_self]
theorem sgM_knowing_zI502 {σ : Sto} {w0 : Int32} {w1 : Nat → Int32} {g : Int32} : zI (sgM_knowing σ w0 w1) 502 g = sgM_knowing σ g w1 := (cm_zI_aI _ _ _ _ _).trans (congrArg (fun z => aI z 629 w1) (zI_zI _ 502 _ _))
theorem sgM_knowing_aI629 {σ : Sto} {w0 : Int32} {w1 : Nat → Int32} {g : Nat → Int32} : aI (sgM_knowing σ w0 w1) 629 g = sgM_knowing σ w0 g := aI_aI _ 629 _ _
theorem sgM_knowing_rzI502 {σ : Sto} {w0 : Int32} {w1 : Nat → Int32} : (sgM_knowing σ w0 w1).1 502 = w0 := rfl
theorem sgM_knowing_rzI522 {σ : Sto} {w0 : Int32} {w1 : Nat → Int32} : (sgM_knowing σ w0 w1).1 522 = σ.1 522 := rfl
theorem sgM_knowing_raI611 {σ : Sto} {w0 : Int32} {w1 : Nat → Int32} : (sgM_knowing σ w0 w1).2.2.1 611 = σ.2.2.1 611 := rfl
theorem sgM_knowing_raI615 {σ : Sto} {w0 : Int32} {w1 : Nat → Int32} : (sgM_knowing σ w0 w1).2.2.1 615 = σ.2.2.1 615 := rfl
theorem sgM_knowing_raI624 {σ : Sto} {w0 : Int32} {w1 : Nat → Int32} : (sgM_knowing σ w0 w1).2.2.1 624 = σ.2.2.1 624 := rfl
theorem sgM_knowing_raI629 {σ : Sto} {w0 : Int32} {w1 : Nat → Int32} : (sgM_knowing σ w0 w1).2.2.1 629 = w1 := rfl
abbrev rmM_knowing : Room := { frames := 5, cells := 0, slots := 0, locals := 117 }
set_option maxHeartbeats 4000000 in
theorem wkM_knowing {x1 : Int32} {r_ : Int32} {w_zI502 : Int32} {w_aI629 : Nat → Int32} (E : EN p s m args meth c0 RX16 cX16_knowing 2 (Option.some Jvm.ClassFile.FieldType.int)) (hK : KK D clsA G s) (hA : ∀ q, PA dscM ad s.heap.size q → A q) (hf : mo_knowing (σ.1 502) (σ.1 522) (σ.2.2.1 611) (σ.2.2.1 615) (σ.2.2.1 624) (σ.2.2.1 629) x1 = some (r_, w_zI502, w_aI629)) (hQ : Q = MQ below (va_Qi (fun x (_ : Unit) => x = r_) (fun _ t => PM D G ad (sgM_knowing σ w_zI502 w_aI629) t.heap ∧ KK D clsA G t) A) args s 0 0 A) (hP : PM D G ad σ H) (hS : va_S A s.heap H locs) (hl : lv_has ls 2 [(0, .ref (ad 500)), (1, .int x1)]) : W p l e rmM_knowing s m args below meth c0 H locs 0 0 Q (F0 m 0 ls []) := by
  obtain ⟨⟨hx, hb, hml, hown, hts⟩, hr, hlk⟩ := id E
  have hP := hP.to (sgM_knowing_self σ).symm
  unfold mo_knowing at hf
  refine lv_aload_n hx hb dX16_knowing_0 rfl (lv_at hl 0 rfl) ?_
  refine lv_iconst hx hb dX16_knowing_1 ic_0 ?_
  refine uM_2 E hK hP hS (hA _ (PA_c dM_500)) sgM_knowing_zI502 dX16_knowing_2 (fun H locs hP hS => ?_)
  refine lv_aload_n hx hb dX16_knowing_5 rfl (lv_at hl 0 rfl) ?_
  refine lv_iload_n hx hb dX16_knowing_6 rfl (lv_at hl 1 rfl) ?_
  obtain ⟨v1, u2, hf⟩ := bdP hf
  refine cM_isWorld E hK hP hS hA sgM_knowing_rzI522 u2 ⟨Nat.le_of_ble_eq_true rfl, Nat.le_of_ble_eq_true rfl⟩ ⟨Nat.zero_le _, Nat.zero_le _⟩ hl.1 (Nat.le_of_ble_eq_true rfl) dX16_knowing_7 (fun H locs hP hS => ?_)
  have J28 : mo_knowing_J28 (σ.2.2.1 629) = some (r_, w_zI502, w_aI629) → ∀ (H : Heap) (locs : List Loc), PM D G ad (sgM_knowing σ 0 (σ.2.2.1 629)) H → va_S A s.heap H locs → ∀ (ls : Array Slot), lv_has ls 2 [] → W p l e rmM_knowing s m args below meth c0 H locs 0 0 Q (F0 m 28 ls []) := by
    intro  hf H locs hP hS ls hl
    unfold mo_knowing_J28 at hf
    refine lv_iconst hx hb dX16_knowing_28 ic_m1 ?_
    cases hf
    rw [hQ]; exact p_iret hx hb hr hlk hK hP hS dX16_knowing_29
  refine lv_if_eq (tgt := 28) hx hb dX16_knowing_10 (by decide) (fun c3 => ?_) (fun c3 => ?_)
  · have hf := ifT c3 hf
    exact J28  hf H locs hP hS ls (lv_sub hl [] rfl)
  · have hf := ifF c3 hf
    refine lv_aload_n hx hb dX16_knowing_13 rfl (lv_at hl 0 rfl) ?_
    obtain ⟨v4, u5, hf⟩ := bdP hf
    refine cM_hasEnds E hK hP hS hA sgM_knowing_raI611 u5 ⟨Nat.le_of_ble_eq_true rfl, Nat.le_of_ble_eq_true rfl⟩ ⟨Nat.zero_le _, Nat.zero_le _⟩ hl.1 (Nat.le_of_ble_eq_true rfl) dX16_knowing_14 (fun H locs hP hS => ?_)
    refine lv_if_eq (tgt := 28) hx hb dX16_knowing_17 (by decide) (fun c6 => ?_) (fun c6 => ?_)
    · have hf := ifT c6 hf
      exact J28  hf H locs hP hS ls (lv_sub hl [] rfl)
    · have hf := ifF c6 hf
      refine lv_aload_n hx hb dX16_knowing_20 rfl (lv_at hl 0 rfl) ?_
      refine lv_iload_n hx hb dX16_knowing_21 rfl (lv_at hl 1 rfl) ?_
      obtain ⟨⟨v7, a8⟩, u9, hf⟩ := bdP hf
      dsimp only at hf
      refine cM_knowingOf E hK hP hS hA sgM_knowing_raI611 sgM_knowing_raI615 sgM_knowing_raI624 sgM_knowing_raI629 u9 ⟨Nat.le_of_ble_eq_true rfl, Nat.le_of_ble_eq_true rfl⟩ ⟨Nat.zero_le _, Nat.zero_le _⟩ hl.1 (Nat.le_of_ble_eq_true rfl) dX16_knowing_22 (fun H locs hP hS => ?_)
      rw [sgM_knowing_aI629] at hP
      refine lv_goto (tgt := 29) hx hb dX16_knowing_25 (by decide) ?_
      cases hf
      rw [hQ]; exact p_iret hx hb hr hlk hK hP hS dX16_knowing_29
theorem kM_knowing (l : Launch) (D : va_G) (G : Nat → ClassId) (ad : Nat → Nat) (σ : Sto) {x1 : Int32} {r_ : Int32} {w_zI502 : Int32} {w_aI629 : Nat → Int32} (hf : mo_knowing (σ.1 502) (σ.1 522) (σ.2.2.1 611) (σ.2.2.1 615) (σ.2.2.1 624) (σ.2.2.1 629) x1 = some (r_, w_zI502, w_aI629)) : CtI l D clsA G dscM ad yX16_knowing (ws_ yX16_knowing cX16_knowing 2 (Option.some Jvm.ClassFile.FieldType.int)) rmM_knowing [.ref (ad 500), .int x1] σ r_ (sgM_knowing σ w_zI502 w_aI629) :=
  p_ctI (by decide +kernel) (Nat.le_of_ble_eq_true rfl) (fun p e s m below meth c0 ls A E hP hK hA hS hl => wkM_knowing E hK hA hf rfl hP hS hl)
/-! isPlan(I)Z -/
abbrev rmM_isPlan : Room := { frames := 0, cells := 0, slots := 0, locals := 0 }
set_option maxHeartbeats 4000000 in
theorem wkM_isPlan {x0 : Int32} {r_ : Int32} (E : EN p s m args meth c0 RX16 cX16_isPlan 1 (Option.some Jvm.ClassFile.FieldType.boolean)) (hK : KK D clsA G s) (hA : ∀ q, PA dscM ad s.heap.size q → A q) (hf : mo_isPlan x0 = some r_) (hQ : Q = MQ below (va_Qi (fun x (_ : Unit) => x = r_) (fun _ t => PM D G ad σ t.heap ∧ KK D clsA G t) A) args s 0 0 A) (hP : PM D G ad σ H) (hS : va_S A s.heap H locs) (hl : lv_has ls 1 [(0, .int x0)]) : W p l e rmM_isPlan s m args below meth c0 H locs 0 0 Q (F0 m 0 ls []) := by
  obtain ⟨⟨hx, hb, hml, hown, hts⟩, hr, hlk⟩ := id E
  unfold mo_isPlan at hf
  refine lv_iload_n hx hb dX16_isPlan_0 rfl (lv_at hl 0 rfl) ?_
  have J14 : mo_isPlan_J14 = some r_ → ∀ (H : Heap) (locs : List Loc), PM D G ad σ H → va_S A s.heap H locs → ∀ (ls : Array Slot), lv_has ls 1 [] → W p l e rmM_isPlan s m args below meth c0 H locs 0 0 Q (F0 m 14 ls []) := by
    intro  hf H locs hP hS ls hl
    unfold mo_isPlan_J14 at hf
    refine lv_iconst hx hb dX16_isPlan_14 ic_0 ?_
    cases hf
    rw [hQ]; exact p_zret hx hb hr hlk hK hP hS rfl dX16_isPlan_15
  refine lv_if_lt (tgt := 14) hx hb dX16_isPlan_1 (by decide) (fun c1 => ?_) (fun c1 => ?_)
  · have hf := ifT c1 hf
    exact J14  hf H locs hP hS ls (lv_sub hl [] rfl)
  · have hf := ifF c1 hf
    refine lv_iload_n hx hb dX16_isPlan_4 rfl (lv_at hl 0 rfl) ?_
    refine lv_bipush hx hb dX16_isPlan_5 bp_7 ?_
    refine lv_icmp_ge (tgt := 14) hx hb dX16_isPlan_7 (by decide) (fun c2 => ?_) (fun c2 => ?_)
    · have hf := ifT c2 hf
      exact J14  hf H locs hP hS ls (lv_sub hl [] rfl)
    · have hf := ifF c2 hf
      refine lv_iconst hx hb dX16_isPlan_10 ic_1 ?_
      refine lv_goto (tgt := 15) hx hb dX16_isPlan_11 (by decide) ?_
      cases hf
      rw [hQ]; exact p_zret hx hb hr hlk hK hP hS rfl dX16_isPlan_15
theorem kM_isPlan (l : Launch) (D : va_G) (G : Nat → ClassId) (ad : Nat → Nat) (σ : Sto) {x0 : Int32} {r_ : Int32} (hf : mo_isPlan x0 = some r_) : CtI l D clsA G dscM ad yX16_isPlan (ws_ yX16_isPlan cX16_isPlan 1 (Option.some Jvm.ClassFile.FieldType.boolean)) rmM_isPlan [.int x0] σ r_ σ :=
  p_ctI (by decide +kernel) (Nat.le_of_ble_eq_true rfl) (fun p e s m below meth c0 ls A E hP hK hA hS hl => wkM_isPlan E hK hA hf rfl hP hS hl)
theorem cM_isPlan (E : EN p s m args meth c0 RX16 cc nL ret) (hK : KK D clsA G s) (hP : PM D G ad σ H) (hS : va_S A s.heap H locs) (hA : ∀ q, PA dscM ad s.heap.size q → A q) {x0 : Int32} {r_ : Int32} (hu : mo_isPlan x0 = some r_) (hR : rmM_isPlan.frames + 1 ≤ R.frames ∧ 8 + (1 + 11) + rmM_isPlan.locals ≤ R.locals) (hcs : cells ≤ R.cells ∧ slots ≤ R.slots) (hsz : ls.size = nL) (hW : (rest.map fun v => v.category).sum ≤ 8) (hdg : decode cc pc = .ok (.invokestatic 422, 3)) (kk : ∀ (H1 : Heap) (locs1 : List Loc), PM D G ad σ H1 → va_S A s.heap H1 locs1 → W p l e R s m args below meth c0 H1 locs1 cells slots Q (F0 m (pc + 3) ls (.int r_ :: rest))) : W p l e R s m args below meth c0 H locs cells slots Q (F0 m pc ls (.int x0 :: rest)) := by
  exact p_callSI (As := [.int x0]) (rest := rest) E.1 hK hP hS hA (kM_isPlan l D G ad σ hu) (va_cwS 1 E.1.2.2.2.2 (lw_S q2035 q2036 q142 q2037) rfl rfl rfl (by decide +kernel) hR) rfl hsz rfl hW hdg hcs kk
/-! arrives(IZII)J -/
abbrev rmM_arrives : Room := { frames := 1, cells := 0, slots := 0, locals := 22 }
set_option maxHeartbeats 4000000 in
theorem wkM_arrives {x1 : Int32} {x2 : Int32} {x3 : Int32} {x4 : Int32} {r_ : Int64} (E : EN p s m args meth c0 RX16 cX16_arrives 13 (Option.some Jvm.ClassFile.FieldType.long)) (hK : KK D clsA G s) (hA : ∀ q, PA dscM ad s.heap.size q → A q) (hf : mo_arrives (σ.2.2.1 611) (σ.2.2.1 620) (σ.2.2.1 624) (σ.2.2.2.1 628) (σ.2.2.2.1 630) x1 x2 x3 x4 = some r_) (hQ : Q = MQ below (va_Ql (fun x (_ : Unit) => x = r_) (fun _ t => PM D G ad σ t.heap ∧ KK D clsA G t) A) args s 0 0 A) (hP : PM D G ad σ H) (hS : va_S A s.heap H locs) (hl : lv_has ls 13 [(0, .ref (ad 500)), (1, .int x1), (2, .int x2), (3, .int x3), (4, .int x4)]) : W p l e rmM_arrives s m args below meth c0 H locs 0 0 Q (F0 m 0 ls []) := by
  obtain ⟨⟨hx, hb, hml, hown, hts⟩, hr, hlk⟩ := id E
  unfold mo_arrives at hf
  refine lv_iconst hx hb dX16_arrives_0 ic_0 ?_
  refine lv_istore (lv' := [(5, .int 0), (0, .ref (ad 500)), (1, .int x1), (2, .int x2), (3, .int x3), (4, .int x4)]) hx hb dX16_arrives_1 hl (by decide) rfl (fun ls hl => ?_)
  refine lv_iconst hx hb dX16_arrives_3 ic_0 ?_
  refine lv_istore (lv' := [(6, .int 0), (5, .int 0), (0, .ref (ad 500)), (1, .int x1), (2, .int x2), (3, .int x3), (4, .int x4)]) hx hb dX16_arrives_4 hl (by decide) rfl (fun ls hl => ?_)
  have LP6 : ∀ (st6 : Int32 × Int32) (ex6 : (Int32)), loop (mo_arrives_L6 (σ.2.2.1 611) (σ.2.2.1 620) (σ.2.2.1 624) x3 x4) st6 = some ex6 → ∀ (H : Heap) (locs : List Loc), PM D G ad σ H → va_S A s.heap H locs → ∀ (ls : Array Slot), lv_has ls 13 [(0, .ref (ad 500)), (1, .int x1), (2, .int x2), (3, .int x3), (4, .int x4), (5, .int (st6.1)), (6, .int (st6.2))] → (∀ (y16 : Int32), ex6 = y16 → ∀ (H : Heap) (locs : List Loc), PM D G ad σ H → va_S A s.heap H locs → ∀ (ls : Array Slot), lv_has ls 13 [(0, .ref (ad 500)), (1, .int x1), (2, .int x2), (3, .int x3), (4, .int x4), (5, .int y16)] → W p l e rmM_arrives s m args below meth c0 H locs 0 0 Q (F0 m 57 ls [])) → W p l e rmM_arrives s m args below meth c0 H locs 0 0 Q (F0 m 6 ls []) := by
    refine loop_P (fun st6 ex6 o6 hf ih6 hx6 => ?_)
    obtain ⟨y1, y2⟩ := st6
    intro H locs (hP : PM D G ad σ H) hS ls (hl : lv_has ls 13 [(0, .ref (ad 500)), (1, .int x1), (2, .int x2), (3, .int x3), (4, .int x4), (5, .int y1), (6, .int y2)]) KE6_0
    dsimp only [mo_arrives_L6] at hf
    refine lv_iload hx hb dX16_arrives_6 (lv_at hl 6 rfl) ?_
    refine lv_aload_n hx hb dX16_arrives_8 rfl (lv_at hl 0 rfl) ?_
    obtain ⟨v3, u4, hf⟩ := bdP hf
    refine cM_doubts E hK hP hS hA rfl u4 ⟨Nat.le_of_ble_eq_true rfl, Nat.le_of_ble_eq_true rfl⟩ ⟨Nat.zero_le _, Nat.zero_le _⟩ hl.1 (Nat.le_of_ble_eq_true rfl) dX16_arrives_9 (fun H locs hP hS => ?_)
    refine lv_icmp_ge (tgt := 57) hx hb dX16_arrives_12 (by decide) (fun c5 => ?_) (fun c5 => ?_)
    · have hf := ifT c5 hf
      exact KE6_0 _ (hx6 _ (Option.some.inj hf).symm).symm H locs hP hS ls (lv_sub hl [0, 1, 2, 3, 4, 5] rfl)
    · have hf := ifF c5 hf
      refine lv_iload hx hb dX16_arrives_15 (lv_at hl 5 rfl) ?_
      refine lv_aload_n hx hb dX16_arrives_17 rfl (lv_at hl 0 rfl) ?_
      refine gM_20 E hK hP dX16_arrives_18 ?_
      refine lv_iload_n hx hb dX16_arrives_21 rfl (lv_at hl 3 rfl) ?_
      obtain ⟨v6, hv6, hf⟩ := bdP hf
      refine p_iald hx hb hK hP dM_620 rfl hv6 dX16_arrives_22 ?_
      refine lv_iload hx hb dX16_arrives_23 (lv_at hl 6 rfl) ?_
      refine lv_ishr hx hb dX16_arrives_25 ?_
      refine lv_iconst hx hb dX16_arrives_26 ic_1 ?_
      refine lv_iand hx hb dX16_arrives_27 ?_
      refine lv_iconst hx hb dX16_arrives_28 ic_1 ?_
      have J48 : ∀ (k7 : Int32) (k8 : Int32), mo_arrives_J48 y2 k7 k8 = some o6 → ∀ (H : Heap) (locs : List Loc), PM D G ad σ H → va_S A s.heap H locs → ∀ (ls : Array Slot), lv_has ls 13 [(0, .ref (ad 500)), (1, .int x1), (2, .int x2), (3, .int x3), (4, .int x4), (6, .int y2)] → W p l e rmM_arrives s m args below meth c0 H locs 0 0 Q (F0 m 48 ls [.int k7, .int k8]) := by
        intro k7 k8 hf H locs hP hS ls hl
        unfold mo_arrives_J48 at hf
        refine lv_iadd hx hb dX16_arrives_48 ?_
        obtain ⟨v9, hv9, hf⟩ := bdP hf
        refine nm_i (Option.some.inj hv9) ?_
        refine lv_istore (lv' := [(5, .int v9), (0, .ref (ad 500)), (1, .int x1), (2, .int x2), (3, .int x3), (4, .int x4), (6, .int y2)]) hx hb dX16_arrives_49 hl (by decide) rfl (fun ls hl => ?_)
        obtain ⟨v10, hv10, hf⟩ := bdP hf
        refine lv_iinc (v := v10) (lv' := [(6, .int v10), (5, .int v9), (0, .ref (ad 500)), (1, .int x1), (2, .int x2), (3, .int x3), (4, .int x4)]) hx hb dX16_arrives_51 hl (k := 6) rfl (Option.some.inj hv10) (by decide) rfl (fun ls hl => ?_)
        refine lv_goto (tgt := 6) hx hb dX16_arrives_54 (by decide) ?_
        exact ih6 _ (Option.some.inj hf).symm H locs hP hS ls (lv_sub hl [2, 3, 4, 5, 6, 1, 0] rfl) KE6_0
      have J47 : ∀ (k11 : Int32), mo_arrives_J47 y2 k11 = some o6 → ∀ (H : Heap) (locs : List Loc), PM D G ad σ H → va_S A s.heap H locs → ∀ (ls : Array Slot), lv_has ls 13 [(0, .ref (ad 500)), (1, .int x1), (2, .int x2), (3, .int x3), (4, .int x4), (6, .int y2)] → W p l e rmM_arrives s m args below meth c0 H locs 0 0 Q (F0 m 47 ls [.int k11]) := by
        intro k11 hf H locs hP hS ls hl
        unfold mo_arrives_J47 at hf
        refine lv_iconst hx hb dX16_arrives_47 ic_0 ?_
        exact J48 0 k11 hf H locs hP hS ls (lv_sub hl [0, 1, 2, 3, 4, 5] rfl)
      refine lv_icmp_ne (tgt := 47) hx hb dX16_arrives_29 (by decide) (fun c12 => ?_) (fun c12 => ?_)
      · have hf := ifF c12 hf
        exact J47 y1 hf H locs hP hS ls (lv_sub hl [0, 1, 2, 3, 4, 6] rfl)
      · have hf := ifT c12 hf
        refine lv_aload_n hx hb dX16_arrives_32 rfl (lv_at hl 0 rfl) ?_
        refine lv_iload hx hb dX16_arrives_33 (lv_at hl 4 rfl) ?_
        refine lv_iload hx hb dX16_arrives_35 (lv_at hl 6 rfl) ?_
        obtain ⟨v13, u14, hf⟩ := bdP hf
        refine cM_digit E hK hP hS hA rfl u14 ⟨Nat.le_of_ble_eq_true rfl, Nat.le_of_ble_eq_true rfl⟩ ⟨Nat.zero_le _, Nat.zero_le _⟩ hl.1 (Nat.le_of_ble_eq_true rfl) dX16_arrives_37 (fun H locs hP hS => ?_)
        refine lv_if_ne (tgt := 47) hx hb dX16_arrives_40 (by decide) (fun c15 => ?_) (fun c15 => ?_)
        · have hf := ifF c15 hf
          exact J47 y1 hf H locs hP hS ls (lv_sub hl [0, 1, 2, 3, 4, 6] rfl)
        · have hf := ifT c15 hf
          refine lv_iconst hx hb dX16_arrives_43 ic_1 ?_
          refine lv_goto (tgt := 48) hx hb dX16_arrives_44 (by decide) ?_
          exact J48 1 y1 hf H locs hP hS ls (lv_sub hl [0, 1, 2, 3, 4, 6] rfl)
  obtain ⟨ex6, hlp6, hf⟩ := bdP hf
  refine LP6 (0, 0) ex6 hlp6 H locs hP hS ls (lv_sub hl [2, 3, 4, 5, 6, 1, 0] rfl) ?_
  intro y16 hex6 H locs hP hS ls hl
  subst ex6
  refine lv_iload_n hx hb dX16_arrives_57 rfl (lv_at hl 2 rfl) ?_
  have J68 : ∀ (k17 : Int64), mo_arrives_J68 (σ.2.2.1 611) (σ.2.2.1 620) (σ.2.2.1 624) (σ.2.2.2.1 628) (σ.2.2.2.1 630) x1 x2 x3 x4 y16 k17 = some r_ → ∀ (H : Heap) (locs : List Loc), PM D G ad σ H → va_S A s.heap H locs → ∀ (ls : Array Slot), lv_has ls 13 [(0, .ref (ad 500)), (1, .int x1), (2, .int x2), (3, .int x3), (4, .int x4), (5, .int y16)] → W p l e rmM_arrives s m args below meth c0 H locs 0 0 Q (F0 m 68 ls [.long k17]) := by
    intro k17 hf H locs hP hS ls hl
    unfold mo_arrives_J68 at hf
    refine lv_lstore (lv' := [(6, .long k17), (0, .ref (ad 500)), (1, .int x1), (2, .int x2), (3, .int x3), (4, .int x4), (5, .int y16)]) hx hb dX16_arrives_68 hl (by decide) rfl (fun ls hl => ?_)
    refine lv_iconst hx hb dX16_arrives_70 ic_0 ?_
    refine lv_istore (lv' := [(8, .int 0), (6, .long k17), (0, .ref (ad 500)), (1, .int x1), (2, .int x2), (3, .int x3), (4, .int x4), (5, .int y16)]) hx hb dX16_arrives_71 hl (by decide) rfl (fun ls hl => ?_)
    have LP73 : ∀ (st73 : Int64 × Int32) (ex73 : (Unit) ⊕ (Int64)), loop (mo_arrives_L73 (σ.2.2.1 611) (σ.2.2.1 620) (σ.2.2.1 624) (σ.2.2.2.1 628) (σ.2.2.2.1 630) x1 x2 x3 x4 y16) st73 = some ex73 → ∀ (H : Heap) (locs : List Loc), PM D G ad σ H → va_S A s.heap H locs → ∀ (ls : Array Slot), lv_has ls 13 [(0, .ref (ad 500)), (1, .int x1), (2, .int x2), (3, .int x3), (4, .int x4), (5, .int y16), (6, .long (st73.1)), (8, .int (st73.2))] → (ex73 = (.inl (())) → ∀ (H : Heap) (locs : List Loc), PM D G ad σ H → va_S A s.heap H locs → ∀ (ls : Array Slot), lv_has ls 13 [] → W p l e rmM_arrives s m args below meth c0 H locs 0 0 Q (F0 m 204 ls [])) → (∀ (y48 : Int64), ex73 = (.inr y48) → ∀ (H : Heap) (locs : List Loc), PM D G ad σ H → va_S A s.heap H locs → ∀ (ls : Array Slot), lv_has ls 13 [(6, .long y48)] → W p l e rmM_arrives s m args below meth c0 H locs 0 0 Q (F0 m 243 ls [])) → W p l e rmM_arrives s m args below meth c0 H locs 0 0 Q (F0 m 73 ls []) := by
      refine loop_P (fun st73 ex73 o73 hf ih73 hx73 => ?_)
      obtain ⟨y18, y19⟩ := st73
      intro H locs (hP : PM D G ad σ H) hS ls (hl : lv_has ls 13 [(0, .ref (ad 500)), (1, .int x1), (2, .int x2), (3, .int x3), (4, .int x4), (5, .int y16), (6, .long y18), (8, .int y19)]) KE73_0 KE73_1
      dsimp only [mo_arrives_L73] at hf
      refine lv_iload hx hb dX16_arrives_73 (lv_at hl 7 rfl) ?_
      refine lv_iconst hx hb dX16_arrives_75 ic_1 ?_
      refine lv_iload hx hb dX16_arrives_76 (lv_at hl 5 rfl) ?_
      refine lv_ishl hx hb dX16_arrives_78 ?_
      refine lv_icmp_ge (tgt := 243) hx hb dX16_arrives_79 (by decide) (fun c20 => ?_) (fun c20 => ?_)
      · have hf := ifT c20 hf
        exact KE73_1 _ (hx73 _ (Option.some.inj hf).symm).symm H locs hP hS ls (lv_sub hl [6] rfl)
      · have hf := ifF c20 hf
        refine lv_iload hx hb dX16_arrives_82 (lv_at hl 4 rfl) ?_
        refine lv_istore (lv' := [(9, .int x4), (0, .ref (ad 500)), (1, .int x1), (2, .int x2), (3, .int x3), (4, .int x4), (5, .int y16), (6, .long y18), (8, .int y19)]) hx hb dX16_arrives_84 hl (by decide) rfl (fun ls hl => ?_)
        refine lv_iconst hx hb dX16_arrives_86 ic_0 ?_
        refine lv_istore (lv' := [(10, .int 0), (9, .int x4), (0, .ref (ad 500)), (1, .int x1), (2, .int x2), (3, .int x3), (4, .int x4), (5, .int y16), (6, .long y18), (8, .int y19)]) hx hb dX16_arrives_87 hl (by decide) rfl (fun ls hl => ?_)
        refine lv_iconst hx hb dX16_arrives_89 ic_0 ?_
        refine lv_istore (lv' := [(11, .int 0), (10, .int 0), (9, .int x4), (0, .ref (ad 500)), (1, .int x1), (2, .int x2), (3, .int x3), (4, .int x4), (5, .int y16), (6, .long y18), (8, .int y19)]) hx hb dX16_arrives_90 hl (by decide) rfl (fun ls hl => ?_)
        have LP92 : ∀ (st92 : Int32 × Int32 × Int32) (ex92 : (Int32)), loop (mo_arrives_L92 (σ.2.2.1 611) (σ.2.2.1 620) (σ.2.2.1 624) x3 x4 y19) st92 = some ex92 → ∀ (H : Heap) (locs : List Loc), PM D G ad σ H → va_S A s.heap H locs → ∀ (ls : Array Slot), lv_has ls 13 [(0, .ref (ad 500)), (1, .int x1), (2, .int x2), (3, .int x3), (4, .int x4), (5, .int y16), (6, .long y18), (8, .int y19), (9, .int (st92.1)), (10, .int (st92.2.1)), (11, .int (st92.2.2))] → (∀ (y38 : Int32), ex92 = y38 → ∀ (H : Heap) (locs : List Loc), PM D G ad σ H → va_S A s.heap H locs → ∀ (ls : Array Slot), lv_has ls 13 [(0, .ref (ad 500)), (1, .int x1), (2, .int x2), (3, .int x3), (4, .int x4), (5, .int y16), (6, .long y18), (8, .int y19), (9, .int y38)] → W p l e rmM_arrives s m args below meth c0 H locs 0 0 Q (F0 m 160 ls [])) → W p l e rmM_arrives s m args below meth c0 H locs 0 0 Q (F0 m 92 ls []) := by
          refine loop_P (fun st92 ex92 o92 hf ih92 hx92 => ?_)
          obtain ⟨y21, y22, y23⟩ := st92
          intro H locs (hP : PM D G ad σ H) hS ls (hl : lv_has ls 13 [(0, .ref (ad 500)), (1, .int x1), (2, .int x2), (3, .int x3), (4, .int x4), (5, .int y16), (6, .long y18), (8, .int y19), (9, .int y21), (10, .int y22), (11, .int y23)]) KE92_0
          dsimp only [mo_arrives_L92] at hf
          refine lv_iload hx hb dX16_arrives_92 (lv_at hl 10 rfl) ?_
          refine lv_aload_n hx hb dX16_arrives_94 rfl (lv_at hl 0 rfl) ?_
          obtain ⟨v24, u25, hf⟩ := bdP hf
          refine cM_doubts E hK hP hS hA rfl u25 ⟨Nat.le_of_ble_eq_true rfl, Nat.le_of_ble_eq_true rfl⟩ ⟨Nat.zero_le _, Nat.zero_le _⟩ hl.1 (Nat.le_of_ble_eq_true rfl) dX16_arrives_95 (fun H locs hP hS => ?_)
          refine lv_icmp_ge (tgt := 160) hx hb dX16_arrives_98 (by decide) (fun c26 => ?_) (fun c26 => ?_)
          · have hf := ifT c26 hf
            exact KE92_0 _ (hx92 _ (Option.some.inj hf).symm).symm H locs hP hS ls (lv_sub hl [0, 1, 2, 3, 4, 5, 6, 7, 8] rfl)
          · have hf := ifF c26 hf
            refine lv_aload_n hx hb dX16_arrives_101 rfl (lv_at hl 0 rfl) ?_
            refine gM_20 E hK hP dX16_arrives_102 ?_
            refine lv_iload_n hx hb dX16_arrives_105 rfl (lv_at hl 3 rfl) ?_
            obtain ⟨v27, hv27, hf⟩ := bdP hf
            refine p_iald hx hb hK hP dM_620 rfl hv27 dX16_arrives_106 ?_
            refine lv_iload hx hb dX16_arrives_107 (lv_at hl 10 rfl) ?_
            refine lv_ishr hx hb dX16_arrives_109 ?_
            refine lv_iconst hx hb dX16_arrives_110 ic_1 ?_
            refine lv_iand hx hb dX16_arrives_111 ?_
            have J154 : ∀ (y28 : Int32) (y29 : Int32), mo_arrives_J154 y23 y28 y29 = some o92 → ∀ (H : Heap) (locs : List Loc), PM D G ad σ H → va_S A s.heap H locs → ∀ (ls : Array Slot), lv_has ls 13 [(0, .ref (ad 500)), (1, .int x1), (2, .int x2), (3, .int x3), (4, .int x4), (5, .int y16), (6, .long y18), (8, .int y19), (9, .int y28), (10, .int y29), (11, .int y23)] → W p l e rmM_arrives s m args below meth c0 H locs 0 0 Q (F0 m 154 ls []) := by
              intro y28 y29 hf H locs hP hS ls hl
              unfold mo_arrives_J154 at hf
              obtain ⟨v30, hv30, hf⟩ := bdP hf
              refine lv_iinc (v := v30) (lv' := [(11, .int v30), (0, .ref (ad 500)), (1, .int x1), (2, .int x2), (3, .int x3), (4, .int x4), (5, .int y16), (6, .long y18), (8, .int y19), (9, .int y28), (10, .int y29)]) hx hb dX16_arrives_154 hl (k := 10) rfl (Option.some.inj hv30) (by decide) rfl (fun ls hl => ?_)
              refine lv_goto (tgt := 92) hx hb dX16_arrives_157 (by decide) ?_
              exact ih92 _ (Option.some.inj hf).symm H locs hP hS ls (lv_sub hl [1, 2, 3, 4, 5, 6, 7, 8, 9, 10, 0] rfl) KE92_0
            refine lv_if_eq (tgt := 154) hx hb dX16_arrives_112 (by decide) (fun c31 => ?_) (fun c31 => ?_)
            · have hf := ifT c31 hf
              exact J154 y21 y22 hf H locs hP hS ls (lv_sub hl [0, 1, 2, 3, 4, 5, 6, 7, 8, 9, 10] rfl)
            · have hf := ifF c31 hf
              refine lv_aload_n hx hb dX16_arrives_115 rfl (lv_at hl 0 rfl) ?_
              refine lv_iload hx hb dX16_arrives_116 (lv_at hl 4 rfl) ?_
              refine lv_iload hx hb dX16_arrives_118 (lv_at hl 10 rfl) ?_
              obtain ⟨v32, u33, hf⟩ := bdP hf
              refine cM_digit E hK hP hS hA rfl u33 ⟨Nat.le_of_ble_eq_true rfl, Nat.le_of_ble_eq_true rfl⟩ ⟨Nat.zero_le _, Nat.zero_le _⟩ hl.1 (Nat.le_of_ble_eq_true rfl) dX16_arrives_120 (fun H locs hP hS => ?_)
              refine lv_if_eq (tgt := 129) hx hb dX16_arrives_123 (by decide) (fun c34 => ?_) (fun c34 => ?_)
              · have hf := ifT c34 hf
                refine lv_iload hx hb dX16_arrives_129 (lv_at hl 8 rfl) ?_
                refine lv_iload hx hb dX16_arrives_131 (lv_at hl 7 rfl) ?_
                refine lv_iload hx hb dX16_arrives_133 (lv_at hl 9 rfl) ?_
                refine lv_ishr hx hb dX16_arrives_135 ?_
                refine lv_iconst hx hb dX16_arrives_136 ic_1 ?_
                refine lv_iand hx hb dX16_arrives_137 ?_
                refine lv_iconst hx hb dX16_arrives_138 ic_1 ?_
                refine lv_iadd hx hb dX16_arrives_139 ?_
                refine lv_aload_n hx hb dX16_arrives_140 rfl (lv_at hl 0 rfl) ?_
                refine gM_24 E hK hP dX16_arrives_141 ?_
                refine lv_iload hx hb dX16_arrives_144 (lv_at hl 10 rfl) ?_
                obtain ⟨v35, hv35, hf⟩ := bdP hf
                refine p_iald hx hb hK hP dM_624 rfl hv35 dX16_arrives_146 ?_
                refine lv_imul hx hb dX16_arrives_147 ?_
                refine lv_iadd hx hb dX16_arrives_148 ?_
                obtain ⟨v36, hv36, hf⟩ := bdP hf
                refine nm_i (Option.some.inj hv36) ?_
                refine lv_istore (lv' := [(9, .int v36), (0, .ref (ad 500)), (1, .int x1), (2, .int x2), (3, .int x3), (4, .int x4), (5, .int y16), (6, .long y18), (8, .int y19), (10, .int y22), (11, .int y23)]) hx hb dX16_arrives_149 hl (by decide) rfl (fun ls hl => ?_)
                obtain ⟨v37, hv37, hf⟩ := bdP hf
                refine lv_iinc (v := v37) (lv' := [(10, .int v37), (9, .int v36), (0, .ref (ad 500)), (1, .int x1), (2, .int x2), (3, .int x3), (4, .int x4), (5, .int y16), (6, .long y18), (8, .int y19), (11, .int y23)]) hx hb dX16_arrives_151 hl (k := 9) rfl (Option.some.inj hv37) (by decide) rfl (fun ls hl => ?_)
                exact J154 v36 v37 hf H locs hP hS ls (lv_sub hl [2, 3, 4, 5, 6, 7, 8, 9, 1, 0, 10] rfl)
              · have hf := ifF c34 hf
                refine lv_goto (tgt := 154) hx hb dX16_arrives_126 (by decide) ?_
                exact J154 y21 y22 hf H locs hP hS ls (lv_sub hl [0, 1, 2, 3, 4, 5, 6, 7, 8, 9, 10] rfl)
        obtain ⟨ex92, hlp92, hf⟩ := bdP hf
        refine LP92 (x4, 0, 0) ex92 hlp92 H locs hP hS ls (lv_sub hl [3, 4, 5, 6, 7, 8, 9, 10, 2, 1, 0] rfl) ?_
        intro y38 hex92 H locs hP hS ls hl
        subst ex92
        refine lv_aload_n hx hb dX16_arrives_160 rfl (lv_at hl 0 rfl) ?_
        refine gM_28 E hK hP dX16_arrives_161 ?_
        refine lv_iload hx hb dX16_arrives_164 (lv_at hl 8 rfl) ?_
        obtain ⟨v39, hv39, hf⟩ := bdP hf
        refine p_lald hx hb hK hP dM_628 rfl hv39 dX16_arrives_166 ?_
        refine lv_lconst hx hb dX16_arrives_167 lc_0 ?_
        refine W.lcmp hx hb dX16_arrives_168 ?_
        have J237 : ∀ (y40 : Int64), mo_arrives_J237 y19 y40 = some o73 → ∀ (H : Heap) (locs : List Loc), PM D G ad σ H → va_S A s.heap H locs → ∀ (ls : Array Slot), lv_has ls 13 [(0, .ref (ad 500)), (1, .int x1), (2, .int x2), (3, .int x3), (4, .int x4), (5, .int y16), (6, .long y40), (8, .int y19)] → W p l e rmM_arrives s m args below meth c0 H locs 0 0 Q (F0 m 237 ls []) := by
          intro y40 hf H locs hP hS ls hl
          unfold mo_arrives_J237 at hf
          obtain ⟨v41, hv41, hf⟩ := bdP hf
          refine lv_iinc (v := v41) (lv' := [(8, .int v41), (0, .ref (ad 500)), (1, .int x1), (2, .int x2), (3, .int x3), (4, .int x4), (5, .int y16), (6, .long y40)]) hx hb dX16_arrives_237 hl (k := 7) rfl (Option.some.inj hv41) (by decide) rfl (fun ls hl => ?_)
          refine lv_goto (tgt := 73) hx hb dX16_arrives_240 (by decide) ?_
          exact ih73 _ (Option.some.inj hf).symm H locs hP hS ls (lv_sub hl [1, 2, 3, 4, 5, 6, 7, 0] rfl) KE73_0 KE73_1
        refine lv_if_ne (tgt := 175) hx hb dX16_arrives_169 (by decide) (fun c42 => ?_) (fun c42 => ?_)
        · have hf := ifF (mt (lgc_eq _ _).mpr c42) hf
          refine lv_aload_n hx hb dX16_arrives_175 rfl (lv_at hl 0 rfl) ?_
          refine gM_30 E hK hP dX16_arrives_176 ?_
          refine lv_sipush hx hb dX16_arrives_179 sp_7290 ?_
          refine lv_iload_n hx hb dX16_arrives_182 rfl (lv_at hl 1 rfl) ?_
          refine lv_imul hx hb dX16_arrives_183 ?_
          refine lv_bipush hx hb dX16_arrives_184 bp_10 ?_
          refine lv_iload hx hb dX16_arrives_186 (lv_at hl 8 rfl) ?_
          refine lv_imul hx hb dX16_arrives_188 ?_
          refine lv_iadd hx hb dX16_arrives_189 ?_
          refine lv_iload_n hx hb dX16_arrives_190 rfl (lv_at hl 3 rfl) ?_
          refine lv_iadd hx hb dX16_arrives_191 ?_
          obtain ⟨v43, hv43, hf⟩ := bdP hf
          refine p_lald hx hb hK hP dM_630 rfl hv43 dX16_arrives_192 ?_
          refine lv_lstore (lv' := [(11, .long v43), (0, .ref (ad 500)), (1, .int x1), (2, .int x2), (3, .int x3), (4, .int x4), (5, .int y16), (6, .long y18), (8, .int y19), (9, .int y38)]) hx hb dX16_arrives_193 hl (by decide) rfl (fun ls hl => ?_)
          refine lv_lload hx hb dX16_arrives_195 (lv_at hl 0 rfl) ?_
          refine lv_ldc2 hx hb hown (hts _ q2050) dX16_arrives_197 ?_
          refine W.lcmp hx hb dX16_arrives_200 ?_
          refine lv_if_lt (tgt := 208) hx hb dX16_arrives_201 (by decide) (fun c44 => ?_) (fun c44 => ?_)
          · have hf := ifT ((lgc_lt _ _).mp c44) hf
            refine lv_iload_n hx hb dX16_arrives_208 rfl (lv_at hl 3 rfl) ?_
            have J235 : ∀ (k45 : Int64), mo_arrives_J235 y19 k45 = some o73 → ∀ (H : Heap) (locs : List Loc), PM D G ad σ H → va_S A s.heap H locs → ∀ (ls : Array Slot), lv_has ls 13 [(0, .ref (ad 500)), (1, .int x1), (2, .int x2), (3, .int x3), (4, .int x4), (5, .int y16), (8, .int y19)] → W p l e rmM_arrives s m args below meth c0 H locs 0 0 Q (F0 m 235 ls [.long k45]) := by
              intro k45 hf H locs hP hS ls hl
              unfold mo_arrives_J235 at hf
              refine lv_lstore (lv' := [(6, .long k45), (0, .ref (ad 500)), (1, .int x1), (2, .int x2), (3, .int x3), (4, .int x4), (5, .int y16), (8, .int y19)]) hx hb dX16_arrives_235 hl (by decide) rfl (fun ls hl => ?_)
              exact J237 k45 hf H locs hP hS ls (lv_sub hl [1, 2, 3, 4, 5, 6, 0, 7] rfl)
            refine lv_if_eq (tgt := 220) hx hb dX16_arrives_209 (by decide) (fun c46 => ?_) (fun c46 => ?_)
            · have hf := ifT c46 hf
              refine lv_lload hx hb dX16_arrives_220 (lv_at hl 0 rfl) ?_
              refine lv_lload hx hb dX16_arrives_222 (lv_at hl 7 rfl) ?_
              refine W.lcmp hx hb dX16_arrives_224 ?_
              refine lv_if_le (tgt := 233) hx hb dX16_arrives_225 (by decide) (fun c47 => ?_) (fun c47 => ?_)
              · have hf := ifT ((lgc_le _ _).mp c47) hf
                refine lv_lload hx hb dX16_arrives_233 (lv_at hl 7 rfl) ?_
                exact J235 y18 hf H locs hP hS ls (lv_sub hl [1, 2, 3, 4, 5, 6, 8] rfl)
              · have hf := ifF (mt (lgc_le _ _).mpr c47) hf
                refine lv_lload hx hb dX16_arrives_228 (lv_at hl 0 rfl) ?_
                refine lv_goto (tgt := 235) hx hb dX16_arrives_230 (by decide) ?_
                exact J235 v43 hf H locs hP hS ls (lv_sub hl [1, 2, 3, 4, 5, 6, 8] rfl)
            · have hf := ifF c46 hf
              refine lv_lload hx hb dX16_arrives_212 (lv_at hl 7 rfl) ?_
              refine lv_lload hx hb dX16_arrives_214 (lv_at hl 0 rfl) ?_
              refine lv_ladd hx hb dX16_arrives_216 ?_
              refine lv_goto (tgt := 235) hx hb dX16_arrives_217 (by decide) ?_
              exact J235 (y18 + v43) hf H locs hP hS ls (lv_sub hl [1, 2, 3, 4, 5, 6, 8] rfl)
          · have hf := ifF (mt (lgc_lt _ _).mpr c44) hf
            exact KE73_0  (hx73 _ (Option.some.inj hf).symm).symm H locs hP hS ls (lv_sub hl [] rfl)
        · have hf := ifT ((lgc_eq _ _).mp c42) hf
          refine lv_goto (tgt := 237) hx hb dX16_arrives_172 (by decide) ?_
          exact J237 y18 hf H locs hP hS ls (lv_sub hl [0, 1, 2, 3, 4, 5, 6, 7] rfl)
    obtain ⟨ex73, hlp73, hf⟩ := bdP hf
    refine LP73 (k17, 0) ex73 hlp73 H locs hP hS ls (lv_sub hl [2, 3, 4, 5, 6, 7, 1, 0] rfl) ?_ ?_
    · intro  hex73 H locs hP hS ls hl
      subst ex73
      dsimp only [sE_l, sE_r] at hf
      refine lv_ldc2 hx hb hown (hts _ q2050) dX16_arrives_204 ?_
      cases hf
      rw [hQ]; exact p_lret hx hb hr hlk hK hP hS dX16_arrives_207
    · intro y48 hex73 H locs hP hS ls hl
      subst ex73
      dsimp only [sE_l, sE_r] at hf
      refine lv_lload hx hb dX16_arrives_243 (lv_at hl 0 rfl) ?_
      cases hf
      rw [hQ]; exact p_lret hx hb hr hlk hK hP hS dX16_arrives_245
  refine lv_if_eq (tgt := 65) hx hb dX16_arrives_58 (by decide) (fun c49 => ?_) (fun c49 => ?_)
  · have hf := ifT c49 hf
    refine lv_ldc2 hx hb hown (hts _ q2063) dX16_arrives_65 ?_
    exact J68 (-4000000000000000000) hf H locs hP hS ls (lv_sub hl [0, 1, 2, 3, 4, 5] rfl)
  · have hf := ifF c49 hf
    refine lv_lconst hx hb dX16_arrives_61 lc_0 ?_
    refine lv_goto (tgt := 68) hx hb dX16_arrives_62 (by decide) ?_
    exact J68 0 hf H locs hP hS ls (lv_sub hl [0, 1, 2, 3, 4, 5] rfl)
theorem kM_arrives (l : Launch) (D : va_G) (G : Nat → ClassId) (ad : Nat → Nat) (σ : Sto) {x1 : Int32} {x2 : Int32} {x3 : Int32} {x4 : Int32} {r_ : Int64} (hf : mo_arrives (σ.2.2.1 611) (σ.2.2.1 620) (σ.2.2.1 624) (σ.2.2.2.1 628) (σ.2.2.2.1 630) x1 x2 x3 x4 = some r_) : CtL l D clsA G dscM ad yX16_arrives (ws_ yX16_arrives cX16_arrives 13 (Option.some Jvm.ClassFile.FieldType.long)) rmM_arrives [.ref (ad 500), .int x1, .int x2, .int x3, .int x4] σ r_ σ :=
  p_ctL (by decide +kernel) (Nat.le_of_ble_eq_true rfl) (fun p e s m below meth c0 ls A E hP hK hA hS hl => wkM_arrives E hK hA hf rfl hP hS hl)
theorem cM_arrives (E : EN p s m args meth c0 RX16 cc nL ret) (hK : KK D clsA G s) (hP : PM D G ad σ H) (hS : va_S A s.heap H locs) (hA : ∀ q, PA dscM ad s.heap.size q → A q) {x1 : Int32} {x2 : Int32} {x3 : Int32} {x4 : Int32} {r_ : Int64} {a_many : Nat → Int32} (e_aI611 : σ.2.2.1 611 = a_many) {a_seen : Nat → Int32} (e_aI620 : σ.2.2.1 620 = a_seen) {a_three : Nat → Int32} (e_aI624 : σ.2.2.1 624 = a_three) {a_likely : Nat → Int64} (e_aL628 : σ.2.2.2.1 628 = a_likely) {a_value : Nat → Int64} (e_aL630 : σ.2.2.2.1 630 = a_value) (hu : mo_arrives a_many a_seen a_three a_likely a_value x1 x2 x3 x4 = some r_) (hR : rmM_arrives.frames + 1 ≤ R.frames ∧ 8 + (13 + 11) + rmM_arrives.locals ≤ R.locals) (hcs : cells ≤ R.cells ∧ slots ≤ R.slots) (hsz : ls.size = nL) (hW : (rest.map fun v => v.category).sum ≤ 8) (hdg : decode cc pc = .ok (.invokevirtual 329, 3)) (kk : ∀ (H1 : Heap) (locs1 : List Loc), PM D G ad σ H1 → va_S A s.heap H1 locs1 → W p l e R s m args below meth c0 H1 locs1 cells slots Q (F0 m (pc + 3) ls (.long r_ :: rest))) : W p l e R s m args below meth c0 H locs cells slots Q (F0 m pc ls (.int x4 :: .int x3 :: .int x2 :: .int x1 :: .ref (ad 500) :: rest)) := by
  subst e_aI611
  subst e_aI620
  subst e_aI624
  subst e_aL628
  subst e_aL630
  exact p_callL (As := [.int x1, .int x2, .int x3, .int x4]) (rest := rest) E.1 hK hP hS hA (kM_arrives l D G ad σ hu) (cwV 4 E.1.2.2.2.2 (lw_V q2059 q2061 qs91 q142 q2062) rfl rfl rfl (by decide +kernel) hR) dM_500 rfl rfl rfl hsz rfl hW hdg hcs kk
/-! buys(IZII)J -/
abbrev rmM_buys : Room := { frames := 0, cells := 0, slots := 0, locals := 0 }
set_option maxHeartbeats 4000000 in
theorem wkM_buys {x1 : Int32} {x2 : Int32} {x3 : Int32} {x4 : Int32} {r_ : Int64} (E : EN p s m args meth c0 RX16 cX16_buys 12 (Option.some Jvm.ClassFile.FieldType.long)) (hK : KK D clsA G s) (hA : ∀ q, PA dscM ad s.heap.size q → A q) (hf : mo_buys (σ.2.2.1 618) (σ.2.2.1 624) (σ.2.2.2.1 628) (σ.2.2.2.1 630) x1 x2 x3 x4 = some r_) (hQ : Q = MQ below (va_Ql (fun x (_ : Unit) => x = r_) (fun _ t => PM D G ad σ t.heap ∧ KK D clsA G t) A) args s 0 0 A) (hP : PM D G ad σ H) (hS : va_S A s.heap H locs) (hl : lv_has ls 12 [(0, .ref (ad 500)), (1, .int x1), (2, .int x2), (3, .int x3), (4, .int x4)]) : W p l e rmM_buys s m args below meth c0 H locs 0 0 Q (F0 m 0 ls []) := by
  obtain ⟨⟨hx, hb, hml, hown, hts⟩, hr, hlk⟩ := id E
  unfold mo_buys at hf
  refine lv_aload_n hx hb dX16_buys_0 rfl (lv_at hl 0 rfl) ?_
  refine gM_18 E hK hP dX16_buys_1 ?_
  refine lv_iconst hx hb dX16_buys_4 ic_3 ?_
  refine lv_iload_n hx hb dX16_buys_5 rfl (lv_at hl 3 rfl) ?_
  refine lv_imul hx hb dX16_buys_6 ?_
  refine lv_iconst hx hb dX16_buys_7 ic_1 ?_
  refine lv_iadd hx hb dX16_buys_8 ?_
  obtain ⟨v1, hv1, hf⟩ := bdP hf
  refine p_iald hx hb hK hP dM_618 rfl hv1 dX16_buys_9 ?_
  refine lv_istore (lv' := [(5, .int v1), (0, .ref (ad 500)), (1, .int x1), (2, .int x2), (3, .int x3), (4, .int x4)]) hx hb dX16_buys_10 hl (by decide) rfl (fun ls hl => ?_)
  refine lv_iload_n hx hb dX16_buys_12 rfl (lv_at hl 3 rfl) ?_
  have J23 : ∀ (k2 : Int64), mo_buys_J23 (σ.2.2.1 618) (σ.2.2.1 624) (σ.2.2.2.1 628) (σ.2.2.2.1 630) v1 x1 x2 x3 x4 k2 = some r_ → ∀ (H : Heap) (locs : List Loc), PM D G ad σ H → va_S A s.heap H locs → ∀ (ls : Array Slot), lv_has ls 12 [(0, .ref (ad 500)), (1, .int x1), (2, .int x2), (3, .int x3), (4, .int x4), (5, .int v1)] → W p l e rmM_buys s m args below meth c0 H locs 0 0 Q (F0 m 23 ls [.long k2]) := by
    intro k2 hf H locs hP hS ls hl
    unfold mo_buys_J23 at hf
    refine lv_lstore (lv' := [(6, .long k2), (0, .ref (ad 500)), (1, .int x1), (2, .int x2), (3, .int x3), (4, .int x4), (5, .int v1)]) hx hb dX16_buys_23 hl (by decide) rfl (fun ls hl => ?_)
    refine lv_iconst hx hb dX16_buys_25 ic_1 ?_
    refine lv_istore (lv' := [(8, .int 1), (6, .long k2), (0, .ref (ad 500)), (1, .int x1), (2, .int x2), (3, .int x3), (4, .int x4), (5, .int v1)]) hx hb dX16_buys_26 hl (by decide) rfl (fun ls hl => ?_)
    have LP28 : ∀ (st28 : Int64 × Int32) (ex28 : (Unit) ⊕ (Int64)), loop (mo_buys_L28 (σ.2.2.1 618) (σ.2.2.1 624) (σ.2.2.2.1 628) (σ.2.2.2.1 630) v1 x1 x2 x3 x4) st28 = some ex28 → ∀ (H : Heap) (locs : List Loc), PM D G ad σ H → va_S A s.heap H locs → ∀ (ls : Array Slot), lv_has ls 12 [(0, .ref (ad 500)), (1, .int x1), (2, .int x2), (3, .int x3), (4, .int x4), (5, .int v1), (6, .long (st28.1)), (8, .int (st28.2))] → (ex28 = (.inl (())) → ∀ (H : Heap) (locs : List Loc), PM D G ad σ H → va_S A s.heap H locs → ∀ (ls : Array Slot), lv_has ls 12 [] → W p l e rmM_buys s m args below meth c0 H locs 0 0 Q (F0 m 100 ls [])) → (∀ (y18 : Int64), ex28 = (.inr y18) → ∀ (H : Heap) (locs : List Loc), PM D G ad σ H → va_S A s.heap H locs → ∀ (ls : Array Slot), lv_has ls 12 [(6, .long y18)] → W p l e rmM_buys s m args below meth c0 H locs 0 0 Q (F0 m 139 ls [])) → W p l e rmM_buys s m args below meth c0 H locs 0 0 Q (F0 m 28 ls []) := by
      refine loop_P (fun st28 ex28 o28 hf ih28 hx28 => ?_)
      obtain ⟨y3, y4⟩ := st28
      intro H locs (hP : PM D G ad σ H) hS ls (hl : lv_has ls 12 [(0, .ref (ad 500)), (1, .int x1), (2, .int x2), (3, .int x3), (4, .int x4), (5, .int v1), (6, .long y3), (8, .int y4)]) KE28_0 KE28_1
      dsimp only [mo_buys_L28] at hf
      refine lv_iload hx hb dX16_buys_28 (lv_at hl 7 rfl) ?_
      refine lv_iconst hx hb dX16_buys_30 ic_3 ?_
      refine lv_icmp_ge (tgt := 139) hx hb dX16_buys_31 (by decide) (fun c5 => ?_) (fun c5 => ?_)
      · have hf := ifT c5 hf
        exact KE28_1 _ (hx28 _ (Option.some.inj hf).symm).symm H locs hP hS ls (lv_sub hl [6] rfl)
      · have hf := ifF c5 hf
        refine lv_iload hx hb dX16_buys_34 (lv_at hl 4 rfl) ?_
        refine lv_iload hx hb dX16_buys_36 (lv_at hl 7 rfl) ?_
        refine lv_aload_n hx hb dX16_buys_38 rfl (lv_at hl 0 rfl) ?_
        refine gM_24 E hK hP dX16_buys_39 ?_
        refine lv_iload hx hb dX16_buys_42 (lv_at hl 5 rfl) ?_
        obtain ⟨v6, hv6, hf⟩ := bdP hf
        refine p_iald hx hb hK hP dM_624 rfl hv6 dX16_buys_44 ?_
        refine lv_imul hx hb dX16_buys_45 ?_
        refine lv_iadd hx hb dX16_buys_46 ?_
        obtain ⟨v7, hv7, hf⟩ := bdP hf
        refine nm_i (Option.some.inj hv7) ?_
        refine lv_istore (lv' := [(9, .int v7), (0, .ref (ad 500)), (1, .int x1), (2, .int x2), (3, .int x3), (4, .int x4), (5, .int v1), (6, .long y3), (8, .int y4)]) hx hb dX16_buys_47 hl (by decide) rfl (fun ls hl => ?_)
        refine lv_aload_n hx hb dX16_buys_49 rfl (lv_at hl 1 rfl) ?_
        refine gM_28 E hK hP dX16_buys_50 ?_
        refine lv_iload hx hb dX16_buys_53 (lv_at hl 0 rfl) ?_
        obtain ⟨v8, hv8, hf⟩ := bdP hf
        refine p_lald hx hb hK hP dM_628 rfl hv8 dX16_buys_55 ?_
        refine lv_lconst hx hb dX16_buys_56 lc_0 ?_
        refine W.lcmp hx hb dX16_buys_57 ?_
        have J133 : ∀ (y9 : Int64), mo_buys_J133 y4 y9 = some o28 → ∀ (H : Heap) (locs : List Loc), PM D G ad σ H → va_S A s.heap H locs → ∀ (ls : Array Slot), lv_has ls 12 [(0, .ref (ad 500)), (1, .int x1), (2, .int x2), (3, .int x3), (4, .int x4), (5, .int v1), (6, .long y9), (8, .int y4)] → W p l e rmM_buys s m args below meth c0 H locs 0 0 Q (F0 m 133 ls []) := by
          intro y9 hf H locs hP hS ls hl
          unfold mo_buys_J133 at hf
          obtain ⟨v10, hv10, hf⟩ := bdP hf
          refine lv_iinc (v := v10) (lv' := [(8, .int v10), (0, .ref (ad 500)), (1, .int x1), (2, .int x2), (3, .int x3), (4, .int x4), (5, .int v1), (6, .long y9)]) hx hb dX16_buys_133 hl (k := 7) rfl (Option.some.inj hv10) (by decide) rfl (fun ls hl => ?_)
          refine lv_goto (tgt := 28) hx hb dX16_buys_136 (by decide) ?_
          exact ih28 _ (Option.some.inj hf).symm H locs hP hS ls (lv_sub hl [1, 2, 3, 4, 5, 6, 7, 0] rfl) KE28_0 KE28_1
        refine lv_if_ne (tgt := 64) hx hb dX16_buys_58 (by decide) (fun c11 => ?_) (fun c11 => ?_)
        · have hf := ifF (mt (lgc_eq _ _).mpr c11) hf
          refine lv_aload_n hx hb dX16_buys_64 rfl (lv_at hl 1 rfl) ?_
          refine gM_30 E hK hP dX16_buys_65 ?_
          refine lv_sipush hx hb dX16_buys_68 sp_7290 ?_
          refine lv_iload_n hx hb dX16_buys_71 rfl (lv_at hl 2 rfl) ?_
          refine lv_imul hx hb dX16_buys_72 ?_
          refine lv_bipush hx hb dX16_buys_73 bp_10 ?_
          refine lv_iload hx hb dX16_buys_75 (lv_at hl 0 rfl) ?_
          refine lv_imul hx hb dX16_buys_77 ?_
          refine lv_iadd hx hb dX16_buys_78 ?_
          refine lv_aload_n hx hb dX16_buys_79 rfl (lv_at hl 1 rfl) ?_
          refine gM_18 E hK hP dX16_buys_80 ?_
          refine lv_iconst hx hb dX16_buys_83 ic_3 ?_
          refine lv_iload_n hx hb dX16_buys_84 rfl (lv_at hl 4 rfl) ?_
          refine lv_imul hx hb dX16_buys_85 ?_
          obtain ⟨v12, hv12, hf⟩ := bdP hf
          refine p_iald hx hb hK hP dM_618 rfl hv12 dX16_buys_86 ?_
          refine lv_iadd hx hb dX16_buys_87 ?_
          obtain ⟨v13, hv13, hf⟩ := bdP hf
          refine p_lald hx hb hK hP dM_630 rfl hv13 dX16_buys_88 ?_
          refine lv_lstore (lv' := [(10, .long v13), (9, .int v7), (0, .ref (ad 500)), (1, .int x1), (2, .int x2), (3, .int x3), (4, .int x4), (5, .int v1), (6, .long y3), (8, .int y4)]) hx hb dX16_buys_89 hl (by decide) rfl (fun ls hl => ?_)
          refine lv_lload hx hb dX16_buys_91 (lv_at hl 0 rfl) ?_
          refine lv_ldc2 hx hb hown (hts _ q2050) dX16_buys_93 ?_
          refine W.lcmp hx hb dX16_buys_96 ?_
          refine lv_if_lt (tgt := 104) hx hb dX16_buys_97 (by decide) (fun c14 => ?_) (fun c14 => ?_)
          · have hf := ifT ((lgc_lt _ _).mp c14) hf
            refine lv_iload_n hx hb dX16_buys_104 rfl (lv_at hl 4 rfl) ?_
            have J131 : ∀ (k15 : Int64), mo_buys_J131 y4 k15 = some o28 → ∀ (H : Heap) (locs : List Loc), PM D G ad σ H → va_S A s.heap H locs → ∀ (ls : Array Slot), lv_has ls 12 [(0, .ref (ad 500)), (1, .int x1), (2, .int x2), (3, .int x3), (4, .int x4), (5, .int v1), (8, .int y4)] → W p l e rmM_buys s m args below meth c0 H locs 0 0 Q (F0 m 131 ls [.long k15]) := by
              intro k15 hf H locs hP hS ls hl
              unfold mo_buys_J131 at hf
              refine lv_lstore (lv' := [(6, .long k15), (0, .ref (ad 500)), (1, .int x1), (2, .int x2), (3, .int x3), (4, .int x4), (5, .int v1), (8, .int y4)]) hx hb dX16_buys_131 hl (by decide) rfl (fun ls hl => ?_)
              exact J133 k15 hf H locs hP hS ls (lv_sub hl [1, 2, 3, 4, 5, 6, 0, 7] rfl)
            refine lv_if_eq (tgt := 116) hx hb dX16_buys_105 (by decide) (fun c16 => ?_) (fun c16 => ?_)
            · have hf := ifT c16 hf
              refine lv_lload hx hb dX16_buys_116 (lv_at hl 0 rfl) ?_
              refine lv_lload hx hb dX16_buys_118 (lv_at hl 8 rfl) ?_
              refine W.lcmp hx hb dX16_buys_120 ?_
              refine lv_if_le (tgt := 129) hx hb dX16_buys_121 (by decide) (fun c17 => ?_) (fun c17 => ?_)
              · have hf := ifT ((lgc_le _ _).mp c17) hf
                refine lv_lload hx hb dX16_buys_129 (lv_at hl 8 rfl) ?_
                exact J131 y3 hf H locs hP hS ls (lv_sub hl [2, 3, 4, 5, 6, 7, 9] rfl)
              · have hf := ifF (mt (lgc_le _ _).mpr c17) hf
                refine lv_lload hx hb dX16_buys_124 (lv_at hl 0 rfl) ?_
                refine lv_goto (tgt := 131) hx hb dX16_buys_126 (by decide) ?_
                exact J131 v13 hf H locs hP hS ls (lv_sub hl [2, 3, 4, 5, 6, 7, 9] rfl)
            · have hf := ifF c16 hf
              refine lv_lload hx hb dX16_buys_108 (lv_at hl 8 rfl) ?_
              refine lv_lload hx hb dX16_buys_110 (lv_at hl 0 rfl) ?_
              refine lv_ladd hx hb dX16_buys_112 ?_
              refine lv_goto (tgt := 131) hx hb dX16_buys_113 (by decide) ?_
              exact J131 (y3 + v13) hf H locs hP hS ls (lv_sub hl [2, 3, 4, 5, 6, 7, 9] rfl)
          · have hf := ifF (mt (lgc_lt _ _).mpr c14) hf
            exact KE28_0  (hx28 _ (Option.some.inj hf).symm).symm H locs hP hS ls (lv_sub hl [] rfl)
        · have hf := ifT ((lgc_eq _ _).mp c11) hf
          refine lv_goto (tgt := 133) hx hb dX16_buys_61 (by decide) ?_
          exact J133 y3 hf H locs hP hS ls (lv_sub hl [1, 2, 3, 4, 5, 6, 7, 8] rfl)
    obtain ⟨ex28, hlp28, hf⟩ := bdP hf
    refine LP28 (k2, 1) ex28 hlp28 H locs hP hS ls (lv_sub hl [2, 3, 4, 5, 6, 7, 1, 0] rfl) ?_ ?_
    · intro  hex28 H locs hP hS ls hl
      subst ex28
      dsimp only [sE_l, sE_r] at hf
      refine lv_ldc2 hx hb hown (hts _ q2050) dX16_buys_100 ?_
      cases hf
      rw [hQ]; exact p_lret hx hb hr hlk hK hP hS dX16_buys_103
    · intro y18 hex28 H locs hP hS ls hl
      subst ex28
      dsimp only [sE_l, sE_r] at hf
      refine lv_lload hx hb dX16_buys_139 (lv_at hl 0 rfl) ?_
      cases hf
      rw [hQ]; exact p_lret hx hb hr hlk hK hP hS dX16_buys_141
  refine lv_if_eq (tgt := 20) hx hb dX16_buys_13 (by decide) (fun c19 => ?_) (fun c19 => ?_)
  · have hf := ifT c19 hf
    refine lv_ldc2 hx hb hown (hts _ q2063) dX16_buys_20 ?_
    exact J23 (-4000000000000000000) hf H locs hP hS ls (lv_sub hl [1, 2, 3, 4, 5, 0] rfl)
  · have hf := ifF c19 hf
    refine lv_lconst hx hb dX16_buys_16 lc_0 ?_
    refine lv_goto (tgt := 23) hx hb dX16_buys_17 (by decide) ?_
    exact J23 0 hf H locs hP hS ls (lv_sub hl [1, 2, 3, 4, 5, 0] rfl)
theorem kM_buys (l : Launch) (D : va_G) (G : Nat → ClassId) (ad : Nat → Nat) (σ : Sto) {x1 : Int32} {x2 : Int32} {x3 : Int32} {x4 : Int32} {r_ : Int64} (hf : mo_buys (σ.2.2.1 618) (σ.2.2.1 624) (σ.2.2.2.1 628) (σ.2.2.2.1 630) x1 x2 x3 x4 = some r_) : CtL l D clsA G dscM ad yX16_buys (ws_ yX16_buys cX16_buys 12 (Option.some Jvm.ClassFile.FieldType.long)) rmM_buys [.ref (ad 500), .int x1, .int x2, .int x3, .int x4] σ r_ σ :=
  p_ctL (by decide +kernel) (Nat.le_of_ble_eq_true rfl) (fun p e s m below meth c0 ls A E hP hK hA hS hl => wkM_buys E hK hA hf rfl hP hS hl)
theorem cM_buys (E : EN p s m args meth c0 RX16 cc nL ret) (hK : KK D clsA G s) (hP : PM D G ad σ H) (hS : va_S A s.heap H locs) (hA : ∀ q, PA dscM ad s.heap.size q → A q) {x1 : Int32} {x2 : Int32} {x3 : Int32} {x4 : Int32} {r_ : Int64} {a_word : Nat → Int32} (e_aI618 : σ.2.2.1 618 = a_word) {a_three : Nat → Int32} (e_aI624 : σ.2.2.1 624 = a_three) {a_likely : Nat → Int64} (e_aL628 : σ.2.2.2.1 628 = a_likely) {a_value : Nat → Int64} (e_aL630 : σ.2.2.2.1 630 = a_value) (hu : mo_buys a_word a_three a_likely a_value x1 x2 x3 x4 = some r_) (hR : rmM_buys.frames + 1 ≤ R.frames ∧ 8 + (12 + 11) + rmM_buys.locals ≤ R.locals) (hcs : cells ≤ R.cells ∧ slots ≤ R.slots) (hsz : ls.size = nL) (hW : (rest.map fun v => v.category).sum ≤ 8) (hdg : decode cc pc = .ok (.invokevirtual 336, 3)) (kk : ∀ (H1 : Heap) (locs1 : List Loc), PM D G ad σ H1 → va_S A s.heap H1 locs1 → W p l e R s m args below meth c0 H1 locs1 cells slots Q (F0 m (pc + 3) ls (.long r_ :: rest))) : W p l e R s m args below meth c0 H locs cells slots Q (F0 m pc ls (.int x4 :: .int x3 :: .int x2 :: .int x1 :: .ref (ad 500) :: rest)) := by
  subst e_aI618
  subst e_aI624
  subst e_aL628
  subst e_aL630
  exact p_callL (As := [.int x1, .int x2, .int x3, .int x4]) (rest := rest) E.1 hK hP hS hA (kM_buys l D G ad σ hu) (cwV 4 E.1.2.2.2.2 (lw_V q2068 q2070 qs93 q142 q2071) rfl rfl rfl (by decide +kernel) hR) dM_500 rfl rfl rfl hsz rfl hW hdg hcs kk
/-! after(JIJ)J -/
abbrev rmM_after : Room := { frames := 0, cells := 0, slots := 0, locals := 0 }
set_option maxHeartbeats 4000000 in
theorem wkM_after {x1 : Int64} {x3 : Int32} {x4 : Int64} {r_ : Int64} (E : EN p s m args meth c0 RX16 cX16_after 6 (Option.some Jvm.ClassFile.FieldType.long)) (hK : KK D clsA G s) (hA : ∀ q, PA dscM ad s.heap.size q → A q) (hf : mo_after x1 x3 x4 = some r_) (hQ : Q = MQ below (va_Ql (fun x (_ : Unit) => x = r_) (fun _ t => PM D G ad σ t.heap ∧ KK D clsA G t) A) args s 0 0 A) (hP : PM D G ad σ H) (hS : va_S A s.heap H locs) (hl : lv_has ls 6 [(0, .ref (ad 500)), (1, .long x1), (3, .int x3), (4, .long x4)]) : W p l e rmM_after s m args below meth c0 H locs 0 0 Q (F0 m 0 ls []) := by
  obtain ⟨⟨hx, hb, hml, hown, hts⟩, hr, hlk⟩ := id E
  unfold mo_after at hf
  refine lv_lload hx hb dX16_after_0 (lv_at hl 3 rfl) ?_
  refine lv_ldc2 hx hb hown (hts _ q2050) dX16_after_2 ?_
  refine W.lcmp hx hb dX16_after_5 ?_
  refine lv_if_lt (tgt := 15) hx hb dX16_after_6 (by decide) (fun c1 => ?_) (fun c1 => ?_)
  · have hf := ifT ((lgc_lt _ _).mp c1) hf
    refine lv_lload_n hx hb dX16_after_15 rfl (lv_at hl 1 rfl) ?_
    refine lv_iload_n hx hb dX16_after_16 rfl (lv_at hl 2 rfl) ?_
    refine lv_i2l hx hb dX16_after_17 rfl ?_
    refine lv_lmul hx hb dX16_after_18 ?_
    refine lv_lload hx hb dX16_after_19 (lv_at hl 3 rfl) ?_
    refine lv_ladd hx hb dX16_after_21 ?_
    cases hf
    rw [hQ]; exact p_lret hx hb hr hlk hK hP hS dX16_after_22
  · have hf := ifF (mt (lgc_lt _ _).mpr c1) hf
    refine lv_ldc2 hx hb hown (hts _ q2050) dX16_after_9 ?_
    refine lv_goto (tgt := 22) hx hb dX16_after_12 (by decide) ?_
    cases hf
    rw [hQ]; exact p_lret hx hb hr hlk hK hP hS dX16_after_22
theorem kM_after (l : Launch) (D : va_G) (G : Nat → ClassId) (ad : Nat → Nat) (σ : Sto) {x1 : Int64} {x3 : Int32} {x4 : Int64} {r_ : Int64} (hf : mo_after x1 x3 x4 = some r_) : CtL l D clsA G dscM ad yX16_after (ws_ yX16_after cX16_after 6 (Option.some Jvm.ClassFile.FieldType.long)) rmM_after [.ref (ad 500), .long x1, .int x3, .long x4] σ r_ σ :=
  p_ctL (by decide +kernel) (Nat.le_of_ble_eq_true rfl) (fun p e s m below meth c0 ls A E hP hK hA hS hl => wkM_after E hK hA hf rfl hP hS hl)
theorem cM_after (E : EN p s m args meth c0 RX16 cc nL ret) (hK : KK D clsA G s) (hP : PM D G ad σ H) (hS : va_S A s.heap H locs) (hA : ∀ q, PA dscM ad s.heap.size q → A q) {x1 : Int64} {x3 : Int32} {x4 : Int64} {r_ : Int64} (hu : mo_after x1 x3 x4 = some r_) (hR : rmM_after.frames + 1 ≤ R.frames ∧ 8 + (6 + 11) + rmM_after.locals ≤ R.locals) (hcs : cells ≤ R.cells ∧ slots ≤ R.slots) (hsz : ls.size = nL) (hW : (rest.map fun v => v.category).sum ≤ 8) (hdg : decode cc pc = .ok (.invokevirtual 347, 3)) (kk : ∀ (H1 : Heap) (locs1 : List Loc), PM D G ad σ H1 → va_S A s.heap H1 locs1 → W p l e R s m args below meth c0 H1 locs1 cells slots Q (F0 m (pc + 3) ls (.long r_ :: rest))) : W p l e R s m args below meth c0 H locs cells slots Q (F0 m pc ls (.long x4 :: .int x3 :: .long x1 :: .ref (ad 500) :: rest)) := by
  exact p_callL (As := [.long x1, .int x3, .long x4]) (rest := rest) E.1 hK hP hS hA (kM_after l D G ad σ hu) (cwV 3 E.1.2.2.2.2 (lw_V q2080 q2082 qs96 q142 q2083) rfl rfl rfl (by decide +kernel) hR) dM_500 rfl rfl rfl hsz rfl hW hdg hcs kk
/-! goes(IJIII)J -/
abbrev rmM_goes : Room := { frames := 2, cells := 0, slots := 0, locals := 45 }
set_option maxHeartbeats 4000000 in
theorem wkM_goes {x1 : Int32} {x2 : Int64} {x4 : Int32} {x5 : Int32} {x6 : Int32} {r_ : Int64} (E : EN p s m args meth c0 RX16 cX16_goes 9 (Option.some Jvm.ClassFile.FieldType.long)) (hK : KK D clsA G s) (hA : ∀ q, PA dscM ad s.heap.size q → A q) (hf : mo_goes (σ.2.2.1 615) (σ.2.2.1 621) (σ.2.2.1 624) (σ.2.2.1 636) (σ.2.2.2.1 630) (σ.2.2.2.1 635) x1 x2 x4 x5 x6 = some r_) (hQ : Q = MQ below (va_Ql (fun x (_ : Unit) => x = r_) (fun _ t => PM D G ad σ t.heap ∧ KK D clsA G t) A) args s 0 0 A) (hP : PM D G ad σ H) (hS : va_S A s.heap H locs) (hl : lv_has ls 9 [(0, .ref (ad 500)), (1, .int x1), (2, .long x2), (4, .int x4), (5, .int x5), (6, .int x6)]) : W p l e rmM_goes s m args below meth c0 H locs 0 0 Q (F0 m 0 ls []) := by
  obtain ⟨⟨hx, hb, hml, hown, hts⟩, hr, hlk⟩ := id E
  unfold mo_goes at hf
  refine lv_aload_n hx hb dX16_goes_0 rfl (lv_at hl 0 rfl) ?_
  refine gM_21 E hK hP dX16_goes_1 ?_
  refine lv_bipush hx hb dX16_goes_4 bp_10 ?_
  refine lv_iload hx hb dX16_goes_6 (lv_at hl 3 rfl) ?_
  refine lv_imul hx hb dX16_goes_8 ?_
  refine lv_iload hx hb dX16_goes_9 (lv_at hl 4 rfl) ?_
  refine lv_iadd hx hb dX16_goes_11 ?_
  obtain ⟨v1, hv1, hf⟩ := bdP hf
  refine p_iald hx hb hK hP dM_621 rfl hv1 dX16_goes_12 ?_
  refine lv_istore (lv' := [(7, .int v1), (0, .ref (ad 500)), (1, .int x1), (2, .long x2), (4, .int x4), (5, .int x5), (6, .int x6)]) hx hb dX16_goes_13 hl (by decide) rfl (fun ls hl => ?_)
  refine lv_iload hx hb dX16_goes_15 (lv_at hl 0 rfl) ?_
  have J32 : ∀ (k2 : Int32), mo_goes_J32 (σ.2.2.1 636) (σ.2.2.2.1 630) (σ.2.2.2.1 635) x1 x2 x5 k2 = some r_ → ∀ (H : Heap) (locs : List Loc), PM D G ad σ H → va_S A s.heap H locs → ∀ (ls : Array Slot), lv_has ls 9 [(0, .ref (ad 500)), (1, .int x1), (2, .long x2), (5, .int x5)] → W p l e rmM_goes s m args below meth c0 H locs 0 0 Q (F0 m 32 ls [.int k2]) := by
    intro k2 hf H locs hP hS ls hl
    unfold mo_goes_J32 at hf
    refine lv_istore (lv' := [(8, .int k2), (0, .ref (ad 500)), (1, .int x1), (2, .long x2), (5, .int x5)]) hx hb dX16_goes_32 hl (by decide) rfl (fun ls hl => ?_)
    refine lv_iload hx hb dX16_goes_34 (lv_at hl 0 rfl) ?_
    refine lv_if_ge (tgt := 45) hx hb dX16_goes_36 (by decide) (fun c3 => ?_) (fun c3 => ?_)
    · have hf := ifT c3 hf
      refine lv_aload_n hx hb dX16_goes_45 rfl (lv_at hl 1 rfl) ?_
      refine lv_lload_n hx hb dX16_goes_46 rfl (lv_at hl 3 rfl) ?_
      refine lv_iload hx hb dX16_goes_47 (lv_at hl 0 rfl) ?_
      refine lv_aload_n hx hb dX16_goes_49 rfl (lv_at hl 1 rfl) ?_
      refine gM_36 E hK hP dX16_goes_50 ?_
      refine lv_iload hx hb dX16_goes_53 (lv_at hl 4 rfl) ?_
      obtain ⟨v4, hv4, hf⟩ := bdP hf
      refine p_zald hx hb hK hP dM_636 rfl hv4 dX16_goes_55 ?_
      have J78 : ∀ (k5 : Int64) (k6 : Int32) (k7 : Int64), mo_goes_J78 k5 k6 k7 = some r_ → ∀ (H : Heap) (locs : List Loc), PM D G ad σ H → va_S A s.heap H locs → ∀ (ls : Array Slot), lv_has ls 9 [] → W p l e rmM_goes s m args below meth c0 H locs 0 0 Q (F0 m 78 ls [.long k5, .int k6, .long k7, .ref (ad 500)]) := by
        intro k5 k6 k7 hf H locs hP hS ls hl
        unfold mo_goes_J78 at hf
        obtain ⟨v8, u9, hf⟩ := bdP hf
        refine cM_after E hK hP hS hA u9 ⟨Nat.le_of_ble_eq_true rfl, Nat.le_of_ble_eq_true rfl⟩ ⟨Nat.zero_le _, Nat.zero_le _⟩ hl.1 (Nat.le_of_ble_eq_true rfl) dX16_goes_78 (fun H locs hP hS => ?_)
        cases hf
        rw [hQ]; exact p_lret hx hb hr hlk hK hP hS dX16_goes_81
      refine lv_if_eq (tgt := 69) hx hb dX16_goes_56 (by decide) (fun c10 => ?_) (fun c10 => ?_)
      · have hf := ifT c10 hf
        refine lv_aload_n hx hb dX16_goes_69 rfl (lv_at hl 1 rfl) ?_
        refine gM_30 E hK hP dX16_goes_70 ?_
        refine lv_iload_n hx hb dX16_goes_73 rfl (lv_at hl 2 rfl) ?_
        refine lv_iload hx hb dX16_goes_74 (lv_at hl 4 rfl) ?_
        refine lv_iadd hx hb dX16_goes_76 ?_
        obtain ⟨v11, hv11, hf⟩ := bdP hf
        refine p_lald hx hb hK hP dM_630 rfl hv11 dX16_goes_77 ?_
        exact J78 v11 k2 x2 hf H locs hP hS ls (lv_sub hl [] rfl)
      · have hf := ifF c10 hf
        refine lv_aload_n hx hb dX16_goes_59 rfl (lv_at hl 1 rfl) ?_
        refine gM_35 E hK hP dX16_goes_60 ?_
        refine lv_iload hx hb dX16_goes_63 (lv_at hl 4 rfl) ?_
        obtain ⟨v12, hv12, hf⟩ := bdP hf
        refine p_lald hx hb hK hP dM_635 rfl hv12 dX16_goes_65 ?_
        refine lv_goto (tgt := 78) hx hb dX16_goes_66 (by decide) ?_
        exact J78 v12 k2 x2 hf H locs hP hS ls (lv_sub hl [] rfl)
    · have hf := ifF c3 hf
      refine lv_ldc2 hx hb hown (hts _ q2050) dX16_goes_39 ?_
      refine lv_goto (tgt := 81) hx hb dX16_goes_42 (by decide) ?_
      cases hf
      rw [hQ]; exact p_lret hx hb hr hlk hK hP hS dX16_goes_81
  refine lv_if_ge (tgt := 24) hx hb dX16_goes_17 (by decide) (fun c13 => ?_) (fun c13 => ?_)
  · have hf := ifT c13 hf
    refine lv_aload_n hx hb dX16_goes_24 rfl (lv_at hl 1 rfl) ?_
    refine lv_iload hx hb dX16_goes_25 (lv_at hl 0 rfl) ?_
    refine lv_iload hx hb dX16_goes_27 (lv_at hl 6 rfl) ?_
    obtain ⟨v14, u15, hf⟩ := bdP hf
    refine cM_hoursOf E hK hP hS hA rfl rfl u15 ⟨Nat.le_of_ble_eq_true rfl, Nat.le_of_ble_eq_true rfl⟩ ⟨Nat.zero_le _, Nat.zero_le _⟩ hl.1 (Nat.le_of_ble_eq_true rfl) dX16_goes_29 (fun H locs hP hS => ?_)
    exact J32 v14 hf H locs hP hS ls (lv_sub hl [1, 2, 3, 5] rfl)
  · have hf := ifF c13 hf
    refine lv_iconst hx hb dX16_goes_20 ic_m1 ?_
    refine lv_goto (tgt := 32) hx hb dX16_goes_21 (by decide) ?_
    exact J32 (-1) hf H locs hP hS ls (lv_sub hl [1, 2, 3, 5] rfl)
theorem kM_goes (l : Launch) (D : va_G) (G : Nat → ClassId) (ad : Nat → Nat) (σ : Sto) {x1 : Int32} {x2 : Int64} {x4 : Int32} {x5 : Int32} {x6 : Int32} {r_ : Int64} (hf : mo_goes (σ.2.2.1 615) (σ.2.2.1 621) (σ.2.2.1 624) (σ.2.2.1 636) (σ.2.2.2.1 630) (σ.2.2.2.1 635) x1 x2 x4 x5 x6 = some r_) : CtL l D clsA G dscM ad yX16_goes (ws_ yX16_goes cX16_goes 9 (Option.some Jvm.ClassFile.FieldType.long)) rmM_goes [.ref (ad 500), .int x1, .long x2, .int x4, .int x5, .int x6] σ r_ σ :=
  p_ctL (by decide +kernel) (Nat.le_of_ble_eq_true rfl) (fun p e s m below meth c0 ls A E hP hK hA hS hl => wkM_goes E hK hA hf rfl hP hS hl)
theorem cM_goes (E : EN p s m args meth c0 RX16 cc nL ret) (hK : KK D clsA G s) (hP : PM D G ad σ H) (hS : va_S A s.heap H locs) (hA : ∀ q, PA dscM ad s.heap.size q → A q) {x1 : Int32} {x2 : Int64} {x4 : Int32} {x5 : Int32} {x6 : Int32} {r_ : Int64} {a_road : Nat → Int32} (e_aI615 : σ.2.2.1 615 = a_road) {a_between : Nat → Int32} (e_aI621 : σ.2.2.1 621 = a_between) {a_three : Nat → Int32} (e_aI624 : σ.2.2.1 624 = a_three) {a_isNews : Nat → Int32} (e_aI636 : σ.2.2.1 636 = a_isNews) {a_value : Nat → Int64} (e_aL630 : σ.2.2.2.1 630 = a_value) {a_coming : Nat → Int64} (e_aL635 : σ.2.2.2.1 635 = a_coming) (hu : mo_goes a_road a_between a_three a_isNews a_value a_coming x1 x2 x4 x5 x6 = some r_) (hR : rmM_goes.frames + 1 ≤ R.frames ∧ 8 + (9 + 11) + rmM_goes.locals ≤ R.locals) (hcs : cells ≤ R.cells ∧ slots ≤ R.slots) (hsz : ls.size = nL) (hW : (rest.map fun v => v.category).sum ≤ 8) (hdg : decode cc pc = .ok (.invokevirtual 351, 3)) (kk : ∀ (H1 : Heap) (locs1 : List Loc), PM D G ad σ H1 → va_S A s.heap H1 locs1 → W p l e R s m args below meth c0 H1 locs1 cells slots Q (F0 m (pc + 3) ls (.long r_ :: rest))) : W p l e R s m args below meth c0 H locs cells slots Q (F0 m pc ls (.int x6 :: .int x5 :: .int x4 :: .long x2 :: .int x1 :: .ref (ad 500) :: rest)) := by
  subst e_aI615
  subst e_aI621
  subst e_aI624
  subst e_aI636
  subst e_aL630
  subst e_aL635
  exact p_callL (As := [.int x1, .long x2, .int x4, .int x5, .int x6]) (rest := rest) E.1 hK hP hS hA (kM_goes l D G ad σ hu) (cwV 5 E.1.2.2.2.2 (lw_V q2076 q2078 qs95 q142 q2079) rfl rfl rfl (by decide +kernel) hR) dM_500 rfl rfl rfl hsz rfl hW hdg hcs kk
/-! isSold(III)Z -/
abbrev rmM_isSold : Room := { frames := 1, cells := 0, slots := 0, locals := 22 }
set_option maxHeartbeats 4000000 in
theorem wkM_isSold {x1 : Int32} {x2 : Int32} {x3 : Int32} {r_ : Int32} (E : EN p s m args meth c0 RX16 cX16_isSold 4 (Option.some Jvm.ClassFile.FieldType.boolean)) (hK : KK D clsA G s) (hA : ∀ q, PA dscM ad s.heap.size q → A q) (hf : mo_isSold (σ.2.2.1 618) (σ.2.2.1 624) x1 x2 x3 = some r_) (hQ : Q = MQ below (va_Qi (fun x (_ : Unit) => x = r_) (fun _ t => PM D G ad σ t.heap ∧ KK D clsA G t) A) args s 0 0 A) (hP : PM D G ad σ H) (hS : va_S A s.heap H locs) (hl : lv_has ls 4 [(0, .ref (ad 500)), (1, .int x1), (2, .int x2), (3, .int x3)]) : W p l e rmM_isSold s m args below meth c0 H locs 0 0 Q (F0 m 0 ls []) := by
  obtain ⟨⟨hx, hb, hml, hown, hts⟩, hr, hlk⟩ := id E
  unfold mo_isSold at hf
  refine lv_aload_n hx hb dX16_isSold_0 rfl (lv_at hl 0 rfl) ?_
  refine gM_18 E hK hP dX16_isSold_1 ?_
  refine lv_iconst hx hb dX16_isSold_4 ic_3 ?_
  refine lv_iload_n hx hb dX16_isSold_5 rfl (lv_at hl 1 rfl) ?_
  refine lv_imul hx hb dX16_isSold_6 ?_
  obtain ⟨v1, hv1, hf⟩ := bdP hf
  refine p_iald hx hb hK hP dM_618 rfl hv1 dX16_isSold_7 ?_
  refine lv_iload_n hx hb dX16_isSold_8 rfl (lv_at hl 2 rfl) ?_
  have J34 : mo_isSold_J34 = some r_ → ∀ (H : Heap) (locs : List Loc), PM D G ad σ H → va_S A s.heap H locs → ∀ (ls : Array Slot), lv_has ls 4 [] → W p l e rmM_isSold s m args below meth c0 H locs 0 0 Q (F0 m 34 ls []) := by
    intro  hf H locs hP hS ls hl
    unfold mo_isSold_J34 at hf
    refine lv_iconst hx hb dX16_isSold_34 ic_0 ?_
    cases hf
    rw [hQ]; exact p_zret hx hb hr hlk hK hP hS rfl dX16_isSold_35
  refine lv_icmp_ne (tgt := 34) hx hb dX16_isSold_9 (by decide) (fun c2 => ?_) (fun c2 => ?_)
  · have hf := ifF c2 hf
    exact J34  hf H locs hP hS ls (lv_sub hl [] rfl)
  · have hf := ifT c2 hf
    refine lv_aload_n hx hb dX16_isSold_12 rfl (lv_at hl 0 rfl) ?_
    refine lv_iload_n hx hb dX16_isSold_13 rfl (lv_at hl 3 rfl) ?_
    refine lv_aload_n hx hb dX16_isSold_14 rfl (lv_at hl 0 rfl) ?_
    refine gM_18 E hK hP dX16_isSold_15 ?_
    refine lv_iconst hx hb dX16_isSold_18 ic_3 ?_
    refine lv_iload_n hx hb dX16_isSold_19 rfl (lv_at hl 1 rfl) ?_
    refine lv_imul hx hb dX16_isSold_20 ?_
    refine lv_iconst hx hb dX16_isSold_21 ic_1 ?_
    refine lv_iadd hx hb dX16_isSold_22 ?_
    obtain ⟨v3, hv3, hf⟩ := bdP hf
    refine p_iald hx hb hK hP dM_618 rfl hv3 dX16_isSold_23 ?_
    obtain ⟨v4, u5, hf⟩ := bdP hf
    refine cM_digit E hK hP hS hA rfl u5 ⟨Nat.le_of_ble_eq_true rfl, Nat.le_of_ble_eq_true rfl⟩ ⟨Nat.zero_le _, Nat.zero_le _⟩ hl.1 (Nat.le_of_ble_eq_true rfl) dX16_isSold_24 (fun H locs hP hS => ?_)
    refine lv_if_ne (tgt := 34) hx hb dX16_isSold_27 (by decide) (fun c6 => ?_) (fun c6 => ?_)
    · have hf := ifF c6 hf
      exact J34  hf H locs hP hS ls (lv_sub hl [] rfl)
    · have hf := ifT c6 hf
      refine lv_iconst hx hb dX16_isSold_30 ic_1 ?_
      refine lv_goto (tgt := 35) hx hb dX16_isSold_31 (by decide) ?_
      cases hf
      rw [hQ]; exact p_zret hx hb hr hlk hK hP hS rfl dX16_isSold_35
theorem kM_isSold (l : Launch) (D : va_G) (G : Nat → ClassId) (ad : Nat → Nat) (σ : Sto) {x1 : Int32} {x2 : Int32} {x3 : Int32} {r_ : Int32} (hf : mo_isSold (σ.2.2.1 618) (σ.2.2.1 624) x1 x2 x3 = some r_) : CtI l D clsA G dscM ad yX16_isSold (ws_ yX16_isSold cX16_isSold 4 (Option.some Jvm.ClassFile.FieldType.boolean)) rmM_isSold [.ref (ad 500), .int x1, .int x2, .int x3] σ r_ σ :=
  p_ctI (by decide +kernel) (Nat.le_of_ble_eq_true rfl) (fun p e s m below meth c0 ls A E hP hK hA hS hl => wkM_isSold E hK hA hf rfl hP hS hl)
theorem cM_isSold (E : EN p s m args meth c0 RX16 cc nL ret) (hK : KK D clsA G s) (hP : PM D G ad σ H) (hS : va_S A s.heap H locs) (hA : ∀ q, PA dscM ad s.heap.size q → A q) {x1 : Int32} {x2 : Int32} {x3 : Int32} {r_ : Int32} {a_word : Nat → Int32} (e_aI618 : σ.2.2.1 618 = a_word) {a_three : Nat → Int32} (e_aI624 : σ.2.2.1 624 = a_three) (hu : mo_isSold a_word a_three x1 x2 x3 = some r_) (hR : rmM_isSold.frames + 1 ≤ R.frames ∧ 8 + (4 + 11) + rmM_isSold.locals ≤ R.locals) (hcs : cells ≤ R.cells ∧ slots ≤ R.slots) (hsz : ls.size = nL) (hW : (rest.map fun v => v.category).sum ≤ 8) (hdg : decode cc pc = .ok (.invokevirtual 333, 3)) (kk : ∀ (H1 : Heap) (locs1 : List Loc), PM D G ad σ H1 → va_S A s.heap H1 locs1 → W p l e R s m args below meth c0 H1 locs1 cells slots Q (F0 m (pc + 3) ls (.int r_ :: rest))) : W p l e R s m args below meth c0 H locs cells slots Q (F0 m pc ls (.int x3 :: .int x2 :: .int x1 :: .ref (ad 500) :: rest)) := by
  subst e_aI618
  subst e_aI624
  exact p_callI (As := [.int x1, .int x2, .int x3]) (rest := rest) E.1 hK hP hS hA (kM_isSold l D G ad σ hu) (cwV 3 E.1.2.2.2.2 (lw_V q2064 q2066 qs92 q142 q2067) rfl rfl rfl (by decide +kernel) hR) dM_500 rfl rfl rfl hsz rfl hW hdg hcs kk
end MWALK
