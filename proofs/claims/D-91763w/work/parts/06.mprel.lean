/-! the classes whose objects the pictures hold; the reference's picture; its fields -/
abbrev clsA : List vw_C := [(RX1, TX1, 33), (RX2, TX2, 7), (RX3, TX3, 14), (RX4, TX4, 3), (RX6, TX6, 5), (RX7, TX7, 6), (RX8, TX8, 7), (RX11, TX11, 4), (RX12, TX12, 7), (RX13, TX13, 4), (RX14, TX14, 3), (RX15, TX15, 2), (RJ2, TJ2, 3), (RX16, TX16, 60), (RX17, TX17, 8), (RX18, TX18, 7), (RX19, TX19, 3), (RX20, TX20, 4), (RJ3, TJ3, 2)]
def ksM : List (Nat × Nat) := [(4, 600), (0, 0), (0, 0), (4, 603), (0, 0), (0, 0), (0, 0), (0, 0), (0, 0), (0, 0), (0, 0), (4, 611), (4, 612), (4, 613), (4, 614), (4, 615), (4, 616), (4, 617), (4, 618), (0, 0), (4, 620), (4, 621), (0, 0), (0, 0), (4, 624), (4, 625), (4, 626), (4, 627), (4, 628), (4, 629), (4, 630), (4, 631), (4, 632), (4, 633), (4, 634), (4, 635), (4, 636), (4, 637), (1, 0), (1, 0), (4, 640), (0, 0), (4, 642), (0, 0), (4, 644), (0, 0), (0, 0), (1, 0), (4, 648), (4, 649), (4, 650), (4, 651), (4, 652), (4, 653), (0, 0), (0, 0), (0, 0), (4, 657), (4, 658), (4, 659)]
def tabM : List (Nat × Dsc) := [(500, .inl (13, ksM)), (600, .inr (0, 600, 0)), (603, .inr (0, 48, 0)), (611, .inr (0, 16, 0)), (612, .inr (0, 20, 0)), (613, .inr (0, 4, 0)), (614, .inr (0, 4, 0)), (615, .inr (0, 336, 0)), (616, .inr (0, 12, 0)), (617, .inr (0, 32, 0)), (618, .inr (0, 36, 0)), (620, .inr (0, 10, 0)), (621, .inr (0, 100, 0)), (624, .inr (0, 7, 0)), (625, .inr (0, 729, 0)), (626, .inr (1, 64, 0)), (627, .inr (1, 64, 0)), (628, .inr (1, 729, 0)), (629, .inr (0, 10, 0)), (630, .inr (1, 29160, 0)), (631, .inr (0, 29160, 0)), (632, .inr (2, 3, 0)), (633, .inr (1, 64, 0)), (634, .inr (1, 729, 0)), (635, .inr (1, 10, 0)), (636, .inr (2, 10, 0)), (637, .inr (1, 6, 0)), (640, .inr (0, 58320, 0)), (642, .inr (0, 6, 0)), (644, .inr (0, 120, 0)), (648, .inr (0, 6, 0)), (649, .inr (0, 6, 0)), (650, .inr (0, 120, 0)), (651, .inr (0, 120, 0)), (652, .inr (0, 357210, 0)), (653, .inr (0, 64, 0)), (657, .inr (0, 101, 0)), (658, .inr (0, 101, 0)), (659, .inr (0, 101, 0))]
def dscM (c : Nat) : Option Dsc := tabM.lookup c
theorem dM_500 : dscM 500 = some (.inl (13, ksM)) := rfl
theorem dM_600 : dscM 600 = some (.inr (0, 600, 0)) := rfl
theorem dM_603 : dscM 603 = some (.inr (0, 48, 0)) := rfl
theorem dM_611 : dscM 611 = some (.inr (0, 16, 0)) := rfl
theorem dM_612 : dscM 612 = some (.inr (0, 20, 0)) := rfl
theorem dM_613 : dscM 613 = some (.inr (0, 4, 0)) := rfl
theorem dM_614 : dscM 614 = some (.inr (0, 4, 0)) := rfl
theorem dM_615 : dscM 615 = some (.inr (0, 336, 0)) := rfl
theorem dM_616 : dscM 616 = some (.inr (0, 12, 0)) := rfl
theorem dM_617 : dscM 617 = some (.inr (0, 32, 0)) := rfl
theorem dM_618 : dscM 618 = some (.inr (0, 36, 0)) := rfl
theorem dM_620 : dscM 620 = some (.inr (0, 10, 0)) := rfl
theorem dM_621 : dscM 621 = some (.inr (0, 100, 0)) := rfl
theorem dM_624 : dscM 624 = some (.inr (0, 7, 0)) := rfl
theorem dM_625 : dscM 625 = some (.inr (0, 729, 0)) := rfl
theorem dM_626 : dscM 626 = some (.inr (1, 64, 0)) := rfl
theorem dM_627 : dscM 627 = some (.inr (1, 64, 0)) := rfl
theorem dM_628 : dscM 628 = some (.inr (1, 729, 0)) := rfl
theorem dM_629 : dscM 629 = some (.inr (0, 10, 0)) := rfl
theorem dM_630 : dscM 630 = some (.inr (1, 29160, 0)) := rfl
theorem dM_631 : dscM 631 = some (.inr (0, 29160, 0)) := rfl
theorem dM_632 : dscM 632 = some (.inr (2, 3, 0)) := rfl
theorem dM_633 : dscM 633 = some (.inr (1, 64, 0)) := rfl
theorem dM_634 : dscM 634 = some (.inr (1, 729, 0)) := rfl
theorem dM_635 : dscM 635 = some (.inr (1, 10, 0)) := rfl
theorem dM_636 : dscM 636 = some (.inr (2, 10, 0)) := rfl
theorem dM_637 : dscM 637 = some (.inr (1, 6, 0)) := rfl
theorem dM_640 : dscM 640 = some (.inr (0, 58320, 0)) := rfl
theorem dM_642 : dscM 642 = some (.inr (0, 6, 0)) := rfl
theorem dM_644 : dscM 644 = some (.inr (0, 120, 0)) := rfl
theorem dM_648 : dscM 648 = some (.inr (0, 6, 0)) := rfl
theorem dM_649 : dscM 649 = some (.inr (0, 6, 0)) := rfl
theorem dM_650 : dscM 650 = some (.inr (0, 120, 0)) := rfl
theorem dM_651 : dscM 651 = some (.inr (0, 120, 0)) := rfl
theorem dM_652 : dscM 652 = some (.inr (0, 357210, 0)) := rfl
theorem dM_653 : dscM 653 = some (.inr (0, 64, 0)) := rfl
theorem dM_657 : dscM 657 = some (.inr (0, 101, 0)) := rfl
theorem dM_658 : dscM 658 = some (.inr (0, 101, 0)) := rfl
theorem dM_659 : dscM 659 = some (.inr (0, 101, 0)) := rfl
abbrev PM (D : va_G) (G : Nat → ClassId) (ad : Nat → Nat) (σ : Sto) (H : Heap) : Prop := PIC D clsA G dscM ad σ H
theorem PA_c {dsc : Nat → Option Dsc} {ad : Nat → Nat} {sz c : Nat} {d : Dsc} (h : dsc c = some d) : PA dsc ad sz (ad c) := Or.inl ⟨c, d, h, rfl⟩
theorem sw_out6 {v : Int32} (c0 : ¬ v = 0) (c1 : ¬ v = 1) (c2 : ¬ v = 2) (c3 : ¬ v = 3) (c4 : ¬ v = 4) (c5 : ¬ v = 5) : v.toInt < 0 ∨ (5 : Int) < v.toInt := by
  have d0 : v.toInt ≠ 0 := fun h => c0 (Int32.toInt_inj.mp (by rw [h]; rfl))
  have d1 : v.toInt ≠ 1 := fun h => c1 (Int32.toInt_inj.mp (by rw [h]; rfl))
  have d2 : v.toInt ≠ 2 := fun h => c2 (Int32.toInt_inj.mp (by rw [h]; rfl))
  have d3 : v.toInt ≠ 3 := fun h => c3 (Int32.toInt_inj.mp (by rw [h]; rfl))
  have d4 : v.toInt ≠ 4 := fun h => c4 (Int32.toInt_inj.mp (by rw [h]; rfl))
  have d5 : v.toInt ≠ 5 := fun h => c5 (Int32.toInt_inj.mp (by rw [h]; rfl))
  omega
theorem sw_out7 {v : Int32} (c0 : ¬ v = 0) (c1 : ¬ v = 1) (c2 : ¬ v = 2) (c3 : ¬ v = 3) (c4 : ¬ v = 4) (c5 : ¬ v = 5) (c6 : ¬ v = 6) : v.toInt < 0 ∨ (6 : Int) < v.toInt := by
  have d0 : v.toInt ≠ 0 := fun h => c0 (Int32.toInt_inj.mp (by rw [h]; rfl))
  have d1 : v.toInt ≠ 1 := fun h => c1 (Int32.toInt_inj.mp (by rw [h]; rfl))
  have d2 : v.toInt ≠ 2 := fun h => c2 (Int32.toInt_inj.mp (by rw [h]; rfl))
  have d3 : v.toInt ≠ 3 := fun h => c3 (Int32.toInt_inj.mp (by rw [h]; rfl))
  have d4 : v.toInt ≠ 4 := fun h => c4 (Int32.toInt_inj.mp (by rw [h]; rfl))
  have d5 : v.toInt ≠ 5 := fun h => c5 (Int32.toInt_inj.mp (by rw [h]; rfl))
  have d6 : v.toInt ≠ 6 := fun h => c6 (Int32.toInt_inj.mp (by rw [h]; rfl))
  omega
theorem sw_out8 {v : Int32} (c0 : ¬ v = 0) (c1 : ¬ v = 1) (c2 : ¬ v = 2) (c3 : ¬ v = 3) (c4 : ¬ v = 4) (c5 : ¬ v = 5) (c6 : ¬ v = 6) (c7 : ¬ v = 7) : v.toInt < 0 ∨ (7 : Int) < v.toInt := by
  have d0 : v.toInt ≠ 0 := fun h => c0 (Int32.toInt_inj.mp (by rw [h]; rfl))
  have d1 : v.toInt ≠ 1 := fun h => c1 (Int32.toInt_inj.mp (by rw [h]; rfl))
  have d2 : v.toInt ≠ 2 := fun h => c2 (Int32.toInt_inj.mp (by rw [h]; rfl))
  have d3 : v.toInt ≠ 3 := fun h => c3 (Int32.toInt_inj.mp (by rw [h]; rfl))
  have d4 : v.toInt ≠ 4 := fun h => c4 (Int32.toInt_inj.mp (by rw [h]; rfl))
  have d5 : v.toInt ≠ 5 := fun h => c5 (Int32.toInt_inj.mp (by rw [h]; rfl))
  have d6 : v.toInt ≠ 6 := fun h => c6 (Int32.toInt_inj.mp (by rw [h]; rfl))
  have d7 : v.toInt ≠ 7 := fun h => c7 (Int32.toInt_inj.mp (by rw [h]; rfl))
  omega
theorem sw_out9 {v : Int32} (c0 : ¬ v = 0) (c1 : ¬ v = 1) (c2 : ¬ v = 2) (c3 : ¬ v = 3) (c4 : ¬ v = 4) (c5 : ¬ v = 5) (c6 : ¬ v = 6) (c7 : ¬ v = 7) (c8 : ¬ v = 8) : v.toInt < 0 ∨ (8 : Int) < v.toInt := by
  have d0 : v.toInt ≠ 0 := fun h => c0 (Int32.toInt_inj.mp (by rw [h]; rfl))
  have d1 : v.toInt ≠ 1 := fun h => c1 (Int32.toInt_inj.mp (by rw [h]; rfl))
  have d2 : v.toInt ≠ 2 := fun h => c2 (Int32.toInt_inj.mp (by rw [h]; rfl))
  have d3 : v.toInt ≠ 3 := fun h => c3 (Int32.toInt_inj.mp (by rw [h]; rfl))
  have d4 : v.toInt ≠ 4 := fun h => c4 (Int32.toInt_inj.mp (by rw [h]; rfl))
  have d5 : v.toInt ≠ 5 := fun h => c5 (Int32.toInt_inj.mp (by rw [h]; rfl))
  have d6 : v.toInt ≠ 6 := fun h => c6 (Int32.toInt_inj.mp (by rw [h]; rfl))
  have d7 : v.toInt ≠ 7 := fun h => c7 (Int32.toInt_inj.mp (by rw [h]; rfl))
  have d8 : v.toInt ≠ 8 := fun h => c8 (Int32.toInt_inj.mp (by rw [h]; rfl))
  omega
theorem sw_out30 {v : Int32} (c0 : ¬ v = 0) (c1 : ¬ v = 1) (c2 : ¬ v = 2) (c3 : ¬ v = 3) (c4 : ¬ v = 4) (c5 : ¬ v = 5) (c6 : ¬ v = 6) (c7 : ¬ v = 7) (c8 : ¬ v = 8) (c9 : ¬ v = 9) (c10 : ¬ v = 10) (c11 : ¬ v = 11) (c12 : ¬ v = 12) (c13 : ¬ v = 13) (c14 : ¬ v = 14) (c15 : ¬ v = 15) (c16 : ¬ v = 16) (c17 : ¬ v = 17) (c18 : ¬ v = 18) (c19 : ¬ v = 19) (c20 : ¬ v = 20) (c21 : ¬ v = 21) (c22 : ¬ v = 22) (c23 : ¬ v = 23) (c24 : ¬ v = 24) (c25 : ¬ v = 25) (c26 : ¬ v = 26) (c27 : ¬ v = 27) (c28 : ¬ v = 28) (c29 : ¬ v = 29) : v.toInt < 0 ∨ (29 : Int) < v.toInt := by
  have d0 : v.toInt ≠ 0 := fun h => c0 (Int32.toInt_inj.mp (by rw [h]; rfl))
  have d1 : v.toInt ≠ 1 := fun h => c1 (Int32.toInt_inj.mp (by rw [h]; rfl))
  have d2 : v.toInt ≠ 2 := fun h => c2 (Int32.toInt_inj.mp (by rw [h]; rfl))
  have d3 : v.toInt ≠ 3 := fun h => c3 (Int32.toInt_inj.mp (by rw [h]; rfl))
  have d4 : v.toInt ≠ 4 := fun h => c4 (Int32.toInt_inj.mp (by rw [h]; rfl))
  have d5 : v.toInt ≠ 5 := fun h => c5 (Int32.toInt_inj.mp (by rw [h]; rfl))
  have d6 : v.toInt ≠ 6 := fun h => c6 (Int32.toInt_inj.mp (by rw [h]; rfl))
  have d7 : v.toInt ≠ 7 := fun h => c7 (Int32.toInt_inj.mp (by rw [h]; rfl))
  have d8 : v.toInt ≠ 8 := fun h => c8 (Int32.toInt_inj.mp (by rw [h]; rfl))
  have d9 : v.toInt ≠ 9 := fun h => c9 (Int32.toInt_inj.mp (by rw [h]; rfl))
  have d10 : v.toInt ≠ 10 := fun h => c10 (Int32.toInt_inj.mp (by rw [h]; rfl))
  have d11 : v.toInt ≠ 11 := fun h => c11 (Int32.toInt_inj.mp (by rw [h]; rfl))
  have d12 : v.toInt ≠ 12 := fun h => c12 (Int32.toInt_inj.mp (by rw [h]; rfl))
  have d13 : v.toInt ≠ 13 := fun h => c13 (Int32.toInt_inj.mp (by rw [h]; rfl))
  have d14 : v.toInt ≠ 14 := fun h => c14 (Int32.toInt_inj.mp (by rw [h]; rfl))
  have d15 : v.toInt ≠ 15 := fun h => c15 (Int32.toInt_inj.mp (by rw [h]; rfl))
  have d16 : v.toInt ≠ 16 := fun h => c16 (Int32.toInt_inj.mp (by rw [h]; rfl))
  have d17 : v.toInt ≠ 17 := fun h => c17 (Int32.toInt_inj.mp (by rw [h]; rfl))
  have d18 : v.toInt ≠ 18 := fun h => c18 (Int32.toInt_inj.mp (by rw [h]; rfl))
  have d19 : v.toInt ≠ 19 := fun h => c19 (Int32.toInt_inj.mp (by rw [h]; rfl))
  have d20 : v.toInt ≠ 20 := fun h => c20 (Int32.toInt_inj.mp (by rw [h]; rfl))
  have d21 : v.toInt ≠ 21 := fun h => c21 (Int32.toInt_inj.mp (by rw [h]; rfl))
  have d22 : v.toInt ≠ 22 := fun h => c22 (Int32.toInt_inj.mp (by rw [h]; rfl))
  have d23 : v.toInt ≠ 23 := fun h => c23 (Int32.toInt_inj.mp (by rw [h]; rfl))
  have d24 : v.toInt ≠ 24 := fun h => c24 (Int32.toInt_inj.mp (by rw [h]; rfl))
  have d25 : v.toInt ≠ 25 := fun h => c25 (Int32.toInt_inj.mp (by rw [h]; rfl))
  have d26 : v.toInt ≠ 26 := fun h => c26 (Int32.toInt_inj.mp (by rw [h]; rfl))
  have d27 : v.toInt ≠ 27 := fun h => c27 (Int32.toInt_inj.mp (by rw [h]; rfl))
  have d28 : v.toInt ≠ 28 := fun h => c28 (Int32.toInt_inj.mp (by rw [h]; rfl))
  have d29 : v.toInt ≠ 29 := fun h => c29 (Int32.toInt_inj.mp (by rw [h]; rfl))
  omega
theorem cm_zI_zL (σ : Sto) (c d : Nat) (f : Int64) (g : Int32) : zI (zL σ c f) d g = zL (zI σ d g) c f := rfl
theorem cm_zI_aI (σ : Sto) (c d : Nat) (f : Nat → Int32) (g : Int32) : zI (aI σ c f) d g = aI (zI σ d g) c f := rfl
theorem cm_zI_aL (σ : Sto) (c d : Nat) (f : Nat → Int64) (g : Int32) : zI (aL σ c f) d g = aL (zI σ d g) c f := rfl
theorem cm_zL_zI (σ : Sto) (c d : Nat) (f : Int32) (g : Int64) : zL (zI σ c f) d g = zI (zL σ d g) c f := rfl
theorem cm_zL_aI (σ : Sto) (c d : Nat) (f : Nat → Int32) (g : Int64) : zL (aI σ c f) d g = aI (zL σ d g) c f := rfl
theorem cm_zL_aL (σ : Sto) (c d : Nat) (f : Nat → Int64) (g : Int64) : zL (aL σ c f) d g = aL (zL σ d g) c f := rfl
theorem cm_aI_zI (σ : Sto) (c d : Nat) (f : Int32) (g : Nat → Int32) : aI (zI σ c f) d g = zI (aI σ d g) c f := rfl
theorem cm_aI_zL (σ : Sto) (c d : Nat) (f : Int64) (g : Nat → Int32) : aI (zL σ c f) d g = zL (aI σ d g) c f := rfl
theorem cm_aI_aL (σ : Sto) (c d : Nat) (f : Nat → Int64) (g : Nat → Int32) : aI (aL σ c f) d g = aL (aI σ d g) c f := rfl
theorem cm_aL_zI (σ : Sto) (c d : Nat) (f : Int32) (g : Nat → Int64) : aL (zI σ c f) d g = zI (aL σ d g) c f := rfl
theorem cm_aL_zL (σ : Sto) (c d : Nat) (f : Int64) (g : Nat → Int64) : aL (zL σ c f) d g = zL (aL σ d g) c f := rfl
theorem cm_aL_aI (σ : Sto) (c d : Nat) (f : Nat → Int32) (g : Nat → Int64) : aL (aI σ c f) d g = aI (aL σ d g) c f := rfl
section MFIELDS
variable {p : Program} {l : Launch} {e : Env} {R : Room} {s : State} {m : MethodId} {args : Array Value} {below : List Frame} {meth : Method} {c0 : Code} {H : Heap} {locs : List Loc} {cells slots : Nat} {Q : State → Prop}
variable {cc : ByteArray} {nL : Nat} {ret : Option FieldType} {pc : Nat} {ls : Array Slot} {rest : List Value} {D : va_G} {A : Nat → Prop} {G : Nat → ClassId} {ad : Nat → Nat} {σ : Sto}
theorem nm_i {x y : Int32} (h : x = y) (k : W p l e R s m args below meth c0 H locs cells slots Q (F0 m pc ls (.int y :: rest))) : W p l e R s m args below meth c0 H locs cells slots Q (F0 m pc ls (.int x :: rest)) := h ▸ k
theorem nm_l {x y : Int64} (h : x = y) (k : W p l e R s m args below meth c0 H locs cells slots Q (F0 m pc ls (.long y :: rest))) : W p l e R s m args below meth c0 H locs cells slots Q (F0 m pc ls (.long x :: rest)) := h ▸ k
theorem gM_0 (E : EN p s m args meth c0 RX16 cc nL ret) (hK : KK D clsA G s) (hP : PM D G ad σ H) (hdg : decode cc pc = .ok (.getfield 7, 3)) (kk : W p l e R s m args below meth c0 H locs cells slots Q (F0 m (pc + 3) ls (.ref (ad 600) :: rest))) : W p l e R s m args below meth c0 H locs cells slots Q (F0 m pc ls (.ref (ad 500) :: rest)) :=
  p_get E.1.1 E.1.2.1 E.1.2.2.2.2 in_X16 E.1.2.2.2.1 hK hP dM_500 rfl 0 (by decide) (E.1.2.2.2.2 _ q1680) (fun _ h => h) rfl rfl hdg kk
theorem gM_1 {v : Int32} (E : EN p s m args meth c0 RX16 cc nL ret) (hK : KK D clsA G s) (hP : PM D G ad σ H) (hv : (σ.1 501) = v) (hdg : decode cc pc = .ok (.getfield 141, 3)) (kk : W p l e R s m args below meth c0 H locs cells slots Q (F0 m (pc + 3) ls (.int v :: rest))) : W p l e R s m args below meth c0 H locs cells slots Q (F0 m pc ls (.ref (ad 500) :: rest)) :=
  p_get E.1.1 E.1.2.1 E.1.2.2.2.2 in_X16 E.1.2.2.2.1 hK hP dM_500 rfl 1 (by decide) (E.1.2.2.2.2 _ q1681) (fun _ h => h) rfl (congrArg Value.int hv) hdg kk
theorem uM_1 {v : Int32} {σ1 : Sto} (E : EN p s m args meth c0 RX16 cc nL ret) (hK : KK D clsA G s) (hP : PM D G ad σ H) (hS : va_S A s.heap H locs) (hA : A (ad 500)) (hσ : zI σ 501 v = σ1) (hdg : decode cc pc = .ok (.putfield 141, 3)) (kk : ∀ (H1 : Heap) (locs1 : List Loc), PM D G ad σ1 H1 → va_S A s.heap H1 locs1 → W p l e R s m args below meth c0 H1 locs1 cells slots Q (F0 m (pc + 3) ls rest)) : W p l e R s m args below meth c0 H locs cells slots Q (F0 m pc ls (.int v :: .ref (ad 500) :: rest)) :=
  p_puti E.1.1 E.1.2.1 E.1.2.2.2.2 in_X16 tyX16 tyX16_ok nmX16 E.1.2.2.2.1 hK hP hS hA dM_500 rfl 1 (by decide) (E.1.2.2.2.2 _ q1681) (fun _ h => h) rfl rfl rfl rfl rfl hσ hdg kk
theorem gM_2 {v : Int32} (E : EN p s m args meth c0 RX16 cc nL ret) (hK : KK D clsA G s) (hP : PM D G ad σ H) (hv : (σ.1 502) = v) (hdg : decode cc pc = .ok (.getfield 138, 3)) (kk : W p l e R s m args below meth c0 H locs cells slots Q (F0 m (pc + 3) ls (.int v :: rest))) : W p l e R s m args below meth c0 H locs cells slots Q (F0 m pc ls (.ref (ad 500) :: rest)) :=
  p_get E.1.1 E.1.2.1 E.1.2.2.2.2 in_X16 E.1.2.2.2.1 hK hP dM_500 rfl 2 (by decide) (E.1.2.2.2.2 _ q1682) (fun _ h => h) rfl (congrArg Value.int hv) hdg kk
theorem uM_2 {v : Int32} {σ1 : Sto} (E : EN p s m args meth c0 RX16 cc nL ret) (hK : KK D clsA G s) (hP : PM D G ad σ H) (hS : va_S A s.heap H locs) (hA : A (ad 500)) (hσ : zI σ 502 v = σ1) (hdg : decode cc pc = .ok (.putfield 138, 3)) (kk : ∀ (H1 : Heap) (locs1 : List Loc), PM D G ad σ1 H1 → va_S A s.heap H1 locs1 → W p l e R s m args below meth c0 H1 locs1 cells slots Q (F0 m (pc + 3) ls rest)) : W p l e R s m args below meth c0 H locs cells slots Q (F0 m pc ls (.int v :: .ref (ad 500) :: rest)) :=
  p_puti E.1.1 E.1.2.1 E.1.2.2.2.2 in_X16 tyX16 tyX16_ok nmX16 E.1.2.2.2.1 hK hP hS hA dM_500 rfl 2 (by decide) (E.1.2.2.2.2 _ q1682) (fun _ h => h) rfl rfl rfl rfl rfl hσ hdg kk
theorem gM_3 (E : EN p s m args meth c0 RX16 cc nL ret) (hK : KK D clsA G s) (hP : PM D G ad σ H) (hdg : decode cc pc = .ok (.getfield 13, 3)) (kk : W p l e R s m args below meth c0 H locs cells slots Q (F0 m (pc + 3) ls (.ref (ad 603) :: rest))) : W p l e R s m args below meth c0 H locs cells slots Q (F0 m pc ls (.ref (ad 500) :: rest)) :=
  p_get E.1.1 E.1.2.1 E.1.2.2.2.2 in_X16 E.1.2.2.2.1 hK hP dM_500 rfl 3 (by decide) (E.1.2.2.2.2 _ q1683) (fun _ h => h) rfl rfl hdg kk
theorem gM_4 {v : Int32} (E : EN p s m args meth c0 RX16 cc nL ret) (hK : KK D clsA G s) (hP : PM D G ad σ H) (hv : (σ.1 504) = v) (hdg : decode cc pc = .ok (.getfield 144, 3)) (kk : W p l e R s m args below meth c0 H locs cells slots Q (F0 m (pc + 3) ls (.int v :: rest))) : W p l e R s m args below meth c0 H locs cells slots Q (F0 m pc ls (.ref (ad 500) :: rest)) :=
  p_get E.1.1 E.1.2.1 E.1.2.2.2.2 in_X16 E.1.2.2.2.1 hK hP dM_500 rfl 4 (by decide) (E.1.2.2.2.2 _ q1684) (fun _ h => h) rfl (congrArg Value.int hv) hdg kk
theorem uM_4 {v : Int32} {σ1 : Sto} (E : EN p s m args meth c0 RX16 cc nL ret) (hK : KK D clsA G s) (hP : PM D G ad σ H) (hS : va_S A s.heap H locs) (hA : A (ad 500)) (hσ : zI σ 504 v = σ1) (hdg : decode cc pc = .ok (.putfield 144, 3)) (kk : ∀ (H1 : Heap) (locs1 : List Loc), PM D G ad σ1 H1 → va_S A s.heap H1 locs1 → W p l e R s m args below meth c0 H1 locs1 cells slots Q (F0 m (pc + 3) ls rest)) : W p l e R s m args below meth c0 H locs cells slots Q (F0 m pc ls (.int v :: .ref (ad 500) :: rest)) :=
  p_puti E.1.1 E.1.2.1 E.1.2.2.2.2 in_X16 tyX16 tyX16_ok nmX16 E.1.2.2.2.1 hK hP hS hA dM_500 rfl 4 (by decide) (E.1.2.2.2.2 _ q1684) (fun _ h => h) rfl rfl rfl rfl rfl hσ hdg kk
theorem gM_5 {v : Int32} (E : EN p s m args meth c0 RX16 cc nL ret) (hK : KK D clsA G s) (hP : PM D G ad σ H) (hv : (σ.1 505) = v) (hdg : decode cc pc = .ok (.getfield 16, 3)) (kk : W p l e R s m args below meth c0 H locs cells slots Q (F0 m (pc + 3) ls (.int v :: rest))) : W p l e R s m args below meth c0 H locs cells slots Q (F0 m pc ls (.ref (ad 500) :: rest)) :=
  p_get E.1.1 E.1.2.1 E.1.2.2.2.2 in_X16 E.1.2.2.2.1 hK hP dM_500 rfl 5 (by decide) (E.1.2.2.2.2 _ q1685) (fun _ h => h) rfl (congrArg Value.int hv) hdg kk
theorem uM_5 {v : Int32} {σ1 : Sto} (E : EN p s m args meth c0 RX16 cc nL ret) (hK : KK D clsA G s) (hP : PM D G ad σ H) (hS : va_S A s.heap H locs) (hA : A (ad 500)) (hσ : zI σ 505 v = σ1) (hdg : decode cc pc = .ok (.putfield 16, 3)) (kk : ∀ (H1 : Heap) (locs1 : List Loc), PM D G ad σ1 H1 → va_S A s.heap H1 locs1 → W p l e R s m args below meth c0 H1 locs1 cells slots Q (F0 m (pc + 3) ls rest)) : W p l e R s m args below meth c0 H locs cells slots Q (F0 m pc ls (.int v :: .ref (ad 500) :: rest)) :=
  p_puti E.1.1 E.1.2.1 E.1.2.2.2.2 in_X16 tyX16 tyX16_ok nmX16 E.1.2.2.2.1 hK hP hS hA dM_500 rfl 5 (by decide) (E.1.2.2.2.2 _ q1685) (fun _ h => h) rfl rfl rfl rfl rfl hσ hdg kk
theorem gM_6 {v : Int32} (E : EN p s m args meth c0 RX16 cc nL ret) (hK : KK D clsA G s) (hP : PM D G ad σ H) (hv : (σ.1 506) = v) (hdg : decode cc pc = .ok (.getfield 150, 3)) (kk : W p l e R s m args below meth c0 H locs cells slots Q (F0 m (pc + 3) ls (.int v :: rest))) : W p l e R s m args below meth c0 H locs cells slots Q (F0 m pc ls (.ref (ad 500) :: rest)) :=
  p_get E.1.1 E.1.2.1 E.1.2.2.2.2 in_X16 E.1.2.2.2.1 hK hP dM_500 rfl 6 (by decide) (E.1.2.2.2.2 _ q1686) (fun _ h => h) rfl (congrArg Value.int hv) hdg kk
theorem uM_6 {v : Int32} {σ1 : Sto} (E : EN p s m args meth c0 RX16 cc nL ret) (hK : KK D clsA G s) (hP : PM D G ad σ H) (hS : va_S A s.heap H locs) (hA : A (ad 500)) (hσ : zI σ 506 v = σ1) (hdg : decode cc pc = .ok (.putfield 150, 3)) (kk : ∀ (H1 : Heap) (locs1 : List Loc), PM D G ad σ1 H1 → va_S A s.heap H1 locs1 → W p l e R s m args below meth c0 H1 locs1 cells slots Q (F0 m (pc + 3) ls rest)) : W p l e R s m args below meth c0 H locs cells slots Q (F0 m pc ls (.int v :: .ref (ad 500) :: rest)) :=
  p_puti E.1.1 E.1.2.1 E.1.2.2.2.2 in_X16 tyX16 tyX16_ok nmX16 E.1.2.2.2.1 hK hP hS hA dM_500 rfl 6 (by decide) (E.1.2.2.2.2 _ q1686) (fun _ h => h) rfl rfl rfl rfl rfl hσ hdg kk
theorem gM_7 {v : Int32} (E : EN p s m args meth c0 RX16 cc nL ret) (hK : KK D clsA G s) (hP : PM D G ad σ H) (hv : (σ.1 507) = v) (hdg : decode cc pc = .ok (.getfield 153, 3)) (kk : W p l e R s m args below meth c0 H locs cells slots Q (F0 m (pc + 3) ls (.int v :: rest))) : W p l e R s m args below meth c0 H locs cells slots Q (F0 m pc ls (.ref (ad 500) :: rest)) :=
  p_get E.1.1 E.1.2.1 E.1.2.2.2.2 in_X16 E.1.2.2.2.1 hK hP dM_500 rfl 7 (by decide) (E.1.2.2.2.2 _ q1687) (fun _ h => h) rfl (congrArg Value.int hv) hdg kk
theorem uM_7 {v : Int32} {σ1 : Sto} (E : EN p s m args meth c0 RX16 cc nL ret) (hK : KK D clsA G s) (hP : PM D G ad σ H) (hS : va_S A s.heap H locs) (hA : A (ad 500)) (hσ : zI σ 507 v = σ1) (hdg : decode cc pc = .ok (.putfield 153, 3)) (kk : ∀ (H1 : Heap) (locs1 : List Loc), PM D G ad σ1 H1 → va_S A s.heap H1 locs1 → W p l e R s m args below meth c0 H1 locs1 cells slots Q (F0 m (pc + 3) ls rest)) : W p l e R s m args below meth c0 H locs cells slots Q (F0 m pc ls (.int v :: .ref (ad 500) :: rest)) :=
  p_puti E.1.1 E.1.2.1 E.1.2.2.2.2 in_X16 tyX16 tyX16_ok nmX16 E.1.2.2.2.1 hK hP hS hA dM_500 rfl 7 (by decide) (E.1.2.2.2.2 _ q1687) (fun _ h => h) rfl rfl rfl rfl rfl hσ hdg kk
theorem gM_8 {v : Int32} (E : EN p s m args meth c0 RX16 cc nL ret) (hK : KK D clsA G s) (hP : PM D G ad σ H) (hv : (σ.1 508) = v) (hdg : decode cc pc = .ok (.getfield 156, 3)) (kk : W p l e R s m args below meth c0 H locs cells slots Q (F0 m (pc + 3) ls (.int v :: rest))) : W p l e R s m args below meth c0 H locs cells slots Q (F0 m pc ls (.ref (ad 500) :: rest)) :=
  p_get E.1.1 E.1.2.1 E.1.2.2.2.2 in_X16 E.1.2.2.2.1 hK hP dM_500 rfl 8 (by decide) (E.1.2.2.2.2 _ q1688) (fun _ h => h) rfl (congrArg Value.int hv) hdg kk
theorem uM_8 {v : Int32} {σ1 : Sto} (E : EN p s m args meth c0 RX16 cc nL ret) (hK : KK D clsA G s) (hP : PM D G ad σ H) (hS : va_S A s.heap H locs) (hA : A (ad 500)) (hσ : zI σ 508 v = σ1) (hdg : decode cc pc = .ok (.putfield 156, 3)) (kk : ∀ (H1 : Heap) (locs1 : List Loc), PM D G ad σ1 H1 → va_S A s.heap H1 locs1 → W p l e R s m args below meth c0 H1 locs1 cells slots Q (F0 m (pc + 3) ls rest)) : W p l e R s m args below meth c0 H locs cells slots Q (F0 m pc ls (.int v :: .ref (ad 500) :: rest)) :=
  p_puti E.1.1 E.1.2.1 E.1.2.2.2.2 in_X16 tyX16 tyX16_ok nmX16 E.1.2.2.2.1 hK hP hS hA dM_500 rfl 8 (by decide) (E.1.2.2.2.2 _ q1688) (fun _ h => h) rfl rfl rfl rfl rfl hσ hdg kk
theorem gM_9 {v : Int32} (E : EN p s m args meth c0 RX16 cc nL ret) (hK : KK D clsA G s) (hP : PM D G ad σ H) (hv : (σ.1 509) = v) (hdg : decode cc pc = .ok (.getfield 167, 3)) (kk : W p l e R s m args below meth c0 H locs cells slots Q (F0 m (pc + 3) ls (.int v :: rest))) : W p l e R s m args below meth c0 H locs cells slots Q (F0 m pc ls (.ref (ad 500) :: rest)) :=
  p_get E.1.1 E.1.2.1 E.1.2.2.2.2 in_X16 E.1.2.2.2.1 hK hP dM_500 rfl 9 (by decide) (E.1.2.2.2.2 _ q1689) (fun _ h => h) rfl (congrArg Value.int hv) hdg kk
theorem uM_9 {v : Int32} {σ1 : Sto} (E : EN p s m args meth c0 RX16 cc nL ret) (hK : KK D clsA G s) (hP : PM D G ad σ H) (hS : va_S A s.heap H locs) (hA : A (ad 500)) (hσ : zI σ 509 v = σ1) (hdg : decode cc pc = .ok (.putfield 167, 3)) (kk : ∀ (H1 : Heap) (locs1 : List Loc), PM D G ad σ1 H1 → va_S A s.heap H1 locs1 → W p l e R s m args below meth c0 H1 locs1 cells slots Q (F0 m (pc + 3) ls rest)) : W p l e R s m args below meth c0 H locs cells slots Q (F0 m pc ls (.int v :: .ref (ad 500) :: rest)) :=
  p_puti E.1.1 E.1.2.1 E.1.2.2.2.2 in_X16 tyX16 tyX16_ok nmX16 E.1.2.2.2.1 hK hP hS hA dM_500 rfl 9 (by decide) (E.1.2.2.2.2 _ q1689) (fun _ h => h) rfl rfl rfl rfl rfl hσ hdg kk
theorem gM_10 {v : Int32} (E : EN p s m args meth c0 RX16 cc nL ret) (hK : KK D clsA G s) (hP : PM D G ad σ H) (hv : (σ.1 510) = v) (hdg : decode cc pc = .ok (.getfield 147, 3)) (kk : W p l e R s m args below meth c0 H locs cells slots Q (F0 m (pc + 3) ls (.int v :: rest))) : W p l e R s m args below meth c0 H locs cells slots Q (F0 m pc ls (.ref (ad 500) :: rest)) :=
  p_get E.1.1 E.1.2.1 E.1.2.2.2.2 in_X16 E.1.2.2.2.1 hK hP dM_500 rfl 10 (by decide) (E.1.2.2.2.2 _ q1690) (fun _ h => h) rfl (congrArg Value.int hv) hdg kk
theorem uM_10 {v : Int32} {σ1 : Sto} (E : EN p s m args meth c0 RX16 cc nL ret) (hK : KK D clsA G s) (hP : PM D G ad σ H) (hS : va_S A s.heap H locs) (hA : A (ad 500)) (hσ : zI σ 510 v = σ1) (hdg : decode cc pc = .ok (.putfield 147, 3)) (kk : ∀ (H1 : Heap) (locs1 : List Loc), PM D G ad σ1 H1 → va_S A s.heap H1 locs1 → W p l e R s m args below meth c0 H1 locs1 cells slots Q (F0 m (pc + 3) ls rest)) : W p l e R s m args below meth c0 H locs cells slots Q (F0 m pc ls (.int v :: .ref (ad 500) :: rest)) :=
  p_puti E.1.1 E.1.2.1 E.1.2.2.2.2 in_X16 tyX16 tyX16_ok nmX16 E.1.2.2.2.1 hK hP hS hA dM_500 rfl 10 (by decide) (E.1.2.2.2.2 _ q1690) (fun _ h => h) rfl rfl rfl rfl rfl hσ hdg kk
theorem gM_11 (E : EN p s m args meth c0 RX16 cc nL ret) (hK : KK D clsA G s) (hP : PM D G ad σ H) (hdg : decode cc pc = .ok (.getfield 20, 3)) (kk : W p l e R s m args below meth c0 H locs cells slots Q (F0 m (pc + 3) ls (.ref (ad 611) :: rest))) : W p l e R s m args below meth c0 H locs cells slots Q (F0 m pc ls (.ref (ad 500) :: rest)) :=
  p_get E.1.1 E.1.2.1 E.1.2.2.2.2 in_X16 E.1.2.2.2.1 hK hP dM_500 rfl 11 (by decide) (E.1.2.2.2.2 _ q1691) (fun _ h => h) rfl rfl hdg kk
theorem gM_12 (E : EN p s m args meth c0 RX16 cc nL ret) (hK : KK D clsA G s) (hP : PM D G ad σ H) (hdg : decode cc pc = .ok (.getfield 23, 3)) (kk : W p l e R s m args below meth c0 H locs cells slots Q (F0 m (pc + 3) ls (.ref (ad 612) :: rest))) : W p l e R s m args below meth c0 H locs cells slots Q (F0 m pc ls (.ref (ad 500) :: rest)) :=
  p_get E.1.1 E.1.2.1 E.1.2.2.2.2 in_X16 E.1.2.2.2.1 hK hP dM_500 rfl 12 (by decide) (E.1.2.2.2.2 _ q1692) (fun _ h => h) rfl rfl hdg kk
theorem gM_13 (E : EN p s m args meth c0 RX16 cc nL ret) (hK : KK D clsA G s) (hP : PM D G ad σ H) (hdg : decode cc pc = .ok (.getfield 26, 3)) (kk : W p l e R s m args below meth c0 H locs cells slots Q (F0 m (pc + 3) ls (.ref (ad 613) :: rest))) : W p l e R s m args below meth c0 H locs cells slots Q (F0 m pc ls (.ref (ad 500) :: rest)) :=
  p_get E.1.1 E.1.2.1 E.1.2.2.2.2 in_X16 E.1.2.2.2.1 hK hP dM_500 rfl 13 (by decide) (E.1.2.2.2.2 _ q1693) (fun _ h => h) rfl rfl hdg kk
theorem gM_14 (E : EN p s m args meth c0 RX16 cc nL ret) (hK : KK D clsA G s) (hP : PM D G ad σ H) (hdg : decode cc pc = .ok (.getfield 29, 3)) (kk : W p l e R s m args below meth c0 H locs cells slots Q (F0 m (pc + 3) ls (.ref (ad 614) :: rest))) : W p l e R s m args below meth c0 H locs cells slots Q (F0 m pc ls (.ref (ad 500) :: rest)) :=
  p_get E.1.1 E.1.2.1 E.1.2.2.2.2 in_X16 E.1.2.2.2.1 hK hP dM_500 rfl 14 (by decide) (E.1.2.2.2.2 _ q1694) (fun _ h => h) rfl rfl hdg kk
theorem gM_15 (E : EN p s m args meth c0 RX16 cc nL ret) (hK : KK D clsA G s) (hP : PM D G ad σ H) (hdg : decode cc pc = .ok (.getfield 32, 3)) (kk : W p l e R s m args below meth c0 H locs cells slots Q (F0 m (pc + 3) ls (.ref (ad 615) :: rest))) : W p l e R s m args below meth c0 H locs cells slots Q (F0 m pc ls (.ref (ad 500) :: rest)) :=
  p_get E.1.1 E.1.2.1 E.1.2.2.2.2 in_X16 E.1.2.2.2.1 hK hP dM_500 rfl 15 (by decide) (E.1.2.2.2.2 _ q1695) (fun _ h => h) rfl rfl hdg kk
theorem gM_16 (E : EN p s m args meth c0 RX16 cc nL ret) (hK : KK D clsA G s) (hP : PM D G ad σ H) (hdg : decode cc pc = .ok (.getfield 35, 3)) (kk : W p l e R s m args below meth c0 H locs cells slots Q (F0 m (pc + 3) ls (.ref (ad 616) :: rest))) : W p l e R s m args below meth c0 H locs cells slots Q (F0 m pc ls (.ref (ad 500) :: rest)) :=
  p_get E.1.1 E.1.2.1 E.1.2.2.2.2 in_X16 E.1.2.2.2.1 hK hP dM_500 rfl 16 (by decide) (E.1.2.2.2.2 _ q1696) (fun _ h => h) rfl rfl hdg kk
theorem gM_17 (E : EN p s m args meth c0 RX16 cc nL ret) (hK : KK D clsA G s) (hP : PM D G ad σ H) (hdg : decode cc pc = .ok (.getfield 38, 3)) (kk : W p l e R s m args below meth c0 H locs cells slots Q (F0 m (pc + 3) ls (.ref (ad 617) :: rest))) : W p l e R s m args below meth c0 H locs cells slots Q (F0 m pc ls (.ref (ad 500) :: rest)) :=
  p_get E.1.1 E.1.2.1 E.1.2.2.2.2 in_X16 E.1.2.2.2.1 hK hP dM_500 rfl 17 (by decide) (E.1.2.2.2.2 _ q1697) (fun _ h => h) rfl rfl hdg kk
theorem gM_18 (E : EN p s m args meth c0 RX16 cc nL ret) (hK : KK D clsA G s) (hP : PM D G ad σ H) (hdg : decode cc pc = .ok (.getfield 41, 3)) (kk : W p l e R s m args below meth c0 H locs cells slots Q (F0 m (pc + 3) ls (.ref (ad 618) :: rest))) : W p l e R s m args below meth c0 H locs cells slots Q (F0 m pc ls (.ref (ad 500) :: rest)) :=
  p_get E.1.1 E.1.2.1 E.1.2.2.2.2 in_X16 E.1.2.2.2.1 hK hP dM_500 rfl 18 (by decide) (E.1.2.2.2.2 _ q1698) (fun _ h => h) rfl rfl hdg kk
theorem gM_19 {v : Int32} (E : EN p s m args meth c0 RX16 cc nL ret) (hK : KK D clsA G s) (hP : PM D G ad σ H) (hv : (σ.1 519) = v) (hdg : decode cc pc = .ok (.getfield 183, 3)) (kk : W p l e R s m args below meth c0 H locs cells slots Q (F0 m (pc + 3) ls (.int v :: rest))) : W p l e R s m args below meth c0 H locs cells slots Q (F0 m pc ls (.ref (ad 500) :: rest)) :=
  p_get E.1.1 E.1.2.1 E.1.2.2.2.2 in_X16 E.1.2.2.2.1 hK hP dM_500 rfl 19 (by decide) (E.1.2.2.2.2 _ q1699) (fun _ h => h) rfl (congrArg Value.int hv) hdg kk
theorem uM_19 {v : Int32} {σ1 : Sto} (E : EN p s m args meth c0 RX16 cc nL ret) (hK : KK D clsA G s) (hP : PM D G ad σ H) (hS : va_S A s.heap H locs) (hA : A (ad 500)) (hσ : zI σ 519 v = σ1) (hdg : decode cc pc = .ok (.putfield 183, 3)) (kk : ∀ (H1 : Heap) (locs1 : List Loc), PM D G ad σ1 H1 → va_S A s.heap H1 locs1 → W p l e R s m args below meth c0 H1 locs1 cells slots Q (F0 m (pc + 3) ls rest)) : W p l e R s m args below meth c0 H locs cells slots Q (F0 m pc ls (.int v :: .ref (ad 500) :: rest)) :=
  p_puti E.1.1 E.1.2.1 E.1.2.2.2.2 in_X16 tyX16 tyX16_ok nmX16 E.1.2.2.2.1 hK hP hS hA dM_500 rfl 19 (by decide) (E.1.2.2.2.2 _ q1699) (fun _ h => h) rfl rfl rfl rfl rfl hσ hdg kk
theorem gM_20 (E : EN p s m args meth c0 RX16 cc nL ret) (hK : KK D clsA G s) (hP : PM D G ad σ H) (hdg : decode cc pc = .ok (.getfield 44, 3)) (kk : W p l e R s m args below meth c0 H locs cells slots Q (F0 m (pc + 3) ls (.ref (ad 620) :: rest))) : W p l e R s m args below meth c0 H locs cells slots Q (F0 m pc ls (.ref (ad 500) :: rest)) :=
  p_get E.1.1 E.1.2.1 E.1.2.2.2.2 in_X16 E.1.2.2.2.1 hK hP dM_500 rfl 20 (by decide) (E.1.2.2.2.2 _ q1700) (fun _ h => h) rfl rfl hdg kk
theorem gM_21 (E : EN p s m args meth c0 RX16 cc nL ret) (hK : KK D clsA G s) (hP : PM D G ad σ H) (hdg : decode cc pc = .ok (.getfield 47, 3)) (kk : W p l e R s m args below meth c0 H locs cells slots Q (F0 m (pc + 3) ls (.ref (ad 621) :: rest))) : W p l e R s m args below meth c0 H locs cells slots Q (F0 m pc ls (.ref (ad 500) :: rest)) :=
  p_get E.1.1 E.1.2.1 E.1.2.2.2.2 in_X16 E.1.2.2.2.1 hK hP dM_500 rfl 21 (by decide) (E.1.2.2.2.2 _ q1701) (fun _ h => h) rfl rfl hdg kk
theorem gM_22 {v : Int32} (E : EN p s m args meth c0 RX16 cc nL ret) (hK : KK D clsA G s) (hP : PM D G ad σ H) (hv : (σ.1 522) = v) (hdg : decode cc pc = .ok (.getfield 237, 3)) (kk : W p l e R s m args below meth c0 H locs cells slots Q (F0 m (pc + 3) ls (.int v :: rest))) : W p l e R s m args below meth c0 H locs cells slots Q (F0 m pc ls (.ref (ad 500) :: rest)) :=
  p_get E.1.1 E.1.2.1 E.1.2.2.2.2 in_X16 E.1.2.2.2.1 hK hP dM_500 rfl 22 (by decide) (E.1.2.2.2.2 _ q1702) (fun _ h => h) rfl (congrArg Value.int hv) hdg kk
theorem uM_22 {v : Int32} {σ1 : Sto} (E : EN p s m args meth c0 RX16 cc nL ret) (hK : KK D clsA G s) (hP : PM D G ad σ H) (hS : va_S A s.heap H locs) (hA : A (ad 500)) (hσ : zI σ 522 v = σ1) (hdg : decode cc pc = .ok (.putfield 237, 3)) (kk : ∀ (H1 : Heap) (locs1 : List Loc), PM D G ad σ1 H1 → va_S A s.heap H1 locs1 → W p l e R s m args below meth c0 H1 locs1 cells slots Q (F0 m (pc + 3) ls rest)) : W p l e R s m args below meth c0 H locs cells slots Q (F0 m pc ls (.int v :: .ref (ad 500) :: rest)) :=
  p_puti E.1.1 E.1.2.1 E.1.2.2.2.2 in_X16 tyX16 tyX16_ok nmX16 E.1.2.2.2.1 hK hP hS hA dM_500 rfl 22 (by decide) (E.1.2.2.2.2 _ q1702) (fun _ h => h) rfl rfl rfl rfl rfl hσ hdg kk
theorem gM_23 {v : Int32} (E : EN p s m args meth c0 RX16 cc nL ret) (hK : KK D clsA G s) (hP : PM D G ad σ H) (hv : (σ.1 523) = v) (hdg : decode cc pc = .ok (.getfield 240, 3)) (kk : W p l e R s m args below meth c0 H locs cells slots Q (F0 m (pc + 3) ls (.int v :: rest))) : W p l e R s m args below meth c0 H locs cells slots Q (F0 m pc ls (.ref (ad 500) :: rest)) :=
  p_get E.1.1 E.1.2.1 E.1.2.2.2.2 in_X16 E.1.2.2.2.1 hK hP dM_500 rfl 23 (by decide) (E.1.2.2.2.2 _ q1703) (fun _ h => h) rfl (congrArg Value.int hv) hdg kk
theorem uM_23 {v : Int32} {σ1 : Sto} (E : EN p s m args meth c0 RX16 cc nL ret) (hK : KK D clsA G s) (hP : PM D G ad σ H) (hS : va_S A s.heap H locs) (hA : A (ad 500)) (hσ : zI σ 523 v = σ1) (hdg : decode cc pc = .ok (.putfield 240, 3)) (kk : ∀ (H1 : Heap) (locs1 : List Loc), PM D G ad σ1 H1 → va_S A s.heap H1 locs1 → W p l e R s m args below meth c0 H1 locs1 cells slots Q (F0 m (pc + 3) ls rest)) : W p l e R s m args below meth c0 H locs cells slots Q (F0 m pc ls (.int v :: .ref (ad 500) :: rest)) :=
  p_puti E.1.1 E.1.2.1 E.1.2.2.2.2 in_X16 tyX16 tyX16_ok nmX16 E.1.2.2.2.1 hK hP hS hA dM_500 rfl 23 (by decide) (E.1.2.2.2.2 _ q1703) (fun _ h => h) rfl rfl rfl rfl rfl hσ hdg kk
theorem gM_24 (E : EN p s m args meth c0 RX16 cc nL ret) (hK : KK D clsA G s) (hP : PM D G ad σ H) (hdg : decode cc pc = .ok (.getfield 50, 3)) (kk : W p l e R s m args below meth c0 H locs cells slots Q (F0 m (pc + 3) ls (.ref (ad 624) :: rest))) : W p l e R s m args below meth c0 H locs cells slots Q (F0 m pc ls (.ref (ad 500) :: rest)) :=
  p_get E.1.1 E.1.2.1 E.1.2.2.2.2 in_X16 E.1.2.2.2.1 hK hP dM_500 rfl 24 (by decide) (E.1.2.2.2.2 _ q1704) (fun _ h => h) rfl rfl hdg kk
theorem gM_25 (E : EN p s m args meth c0 RX16 cc nL ret) (hK : KK D clsA G s) (hP : PM D G ad σ H) (hdg : decode cc pc = .ok (.getfield 53, 3)) (kk : W p l e R s m args below meth c0 H locs cells slots Q (F0 m (pc + 3) ls (.ref (ad 625) :: rest))) : W p l e R s m args below meth c0 H locs cells slots Q (F0 m pc ls (.ref (ad 500) :: rest)) :=
  p_get E.1.1 E.1.2.1 E.1.2.2.2.2 in_X16 E.1.2.2.2.1 hK hP dM_500 rfl 25 (by decide) (E.1.2.2.2.2 _ q1705) (fun _ h => h) rfl rfl hdg kk
theorem gM_26 (E : EN p s m args meth c0 RX16 cc nL ret) (hK : KK D clsA G s) (hP : PM D G ad σ H) (hdg : decode cc pc = .ok (.getfield 56, 3)) (kk : W p l e R s m args below meth c0 H locs cells slots Q (F0 m (pc + 3) ls (.ref (ad 626) :: rest))) : W p l e R s m args below meth c0 H locs cells slots Q (F0 m pc ls (.ref (ad 500) :: rest)) :=
  p_get E.1.1 E.1.2.1 E.1.2.2.2.2 in_X16 E.1.2.2.2.1 hK hP dM_500 rfl 26 (by decide) (E.1.2.2.2.2 _ q1706) (fun _ h => h) rfl rfl hdg kk
theorem gM_27 (E : EN p s m args meth c0 RX16 cc nL ret) (hK : KK D clsA G s) (hP : PM D G ad σ H) (hdg : decode cc pc = .ok (.getfield 60, 3)) (kk : W p l e R s m args below meth c0 H locs cells slots Q (F0 m (pc + 3) ls (.ref (ad 627) :: rest))) : W p l e R s m args below meth c0 H locs cells slots Q (F0 m pc ls (.ref (ad 500) :: rest)) :=
  p_get E.1.1 E.1.2.1 E.1.2.2.2.2 in_X16 E.1.2.2.2.1 hK hP dM_500 rfl 27 (by decide) (E.1.2.2.2.2 _ q1707) (fun _ h => h) rfl rfl hdg kk
theorem gM_28 (E : EN p s m args meth c0 RX16 cc nL ret) (hK : KK D clsA G s) (hP : PM D G ad σ H) (hdg : decode cc pc = .ok (.getfield 63, 3)) (kk : W p l e R s m args below meth c0 H locs cells slots Q (F0 m (pc + 3) ls (.ref (ad 628) :: rest))) : W p l e R s m args below meth c0 H locs cells slots Q (F0 m pc ls (.ref (ad 500) :: rest)) :=
  p_get E.1.1 E.1.2.1 E.1.2.2.2.2 in_X16 E.1.2.2.2.1 hK hP dM_500 rfl 28 (by decide) (E.1.2.2.2.2 _ q1708) (fun _ h => h) rfl rfl hdg kk
theorem gM_29 (E : EN p s m args meth c0 RX16 cc nL ret) (hK : KK D clsA G s) (hP : PM D G ad σ H) (hdg : decode cc pc = .ok (.getfield 66, 3)) (kk : W p l e R s m args below meth c0 H locs cells slots Q (F0 m (pc + 3) ls (.ref (ad 629) :: rest))) : W p l e R s m args below meth c0 H locs cells slots Q (F0 m pc ls (.ref (ad 500) :: rest)) :=
  p_get E.1.1 E.1.2.1 E.1.2.2.2.2 in_X16 E.1.2.2.2.1 hK hP dM_500 rfl 29 (by decide) (E.1.2.2.2.2 _ q1709) (fun _ h => h) rfl rfl hdg kk
theorem gM_30 (E : EN p s m args meth c0 RX16 cc nL ret) (hK : KK D clsA G s) (hP : PM D G ad σ H) (hdg : decode cc pc = .ok (.getfield 69, 3)) (kk : W p l e R s m args below meth c0 H locs cells slots Q (F0 m (pc + 3) ls (.ref (ad 630) :: rest))) : W p l e R s m args below meth c0 H locs cells slots Q (F0 m pc ls (.ref (ad 500) :: rest)) :=
  p_get E.1.1 E.1.2.1 E.1.2.2.2.2 in_X16 E.1.2.2.2.1 hK hP dM_500 rfl 30 (by decide) (E.1.2.2.2.2 _ q1710) (fun _ h => h) rfl rfl hdg kk
theorem gM_31 (E : EN p s m args meth c0 RX16 cc nL ret) (hK : KK D clsA G s) (hP : PM D G ad σ H) (hdg : decode cc pc = .ok (.getfield 72, 3)) (kk : W p l e R s m args below meth c0 H locs cells slots Q (F0 m (pc + 3) ls (.ref (ad 631) :: rest))) : W p l e R s m args below meth c0 H locs cells slots Q (F0 m pc ls (.ref (ad 500) :: rest)) :=
  p_get E.1.1 E.1.2.1 E.1.2.2.2.2 in_X16 E.1.2.2.2.1 hK hP dM_500 rfl 31 (by decide) (E.1.2.2.2.2 _ q1711) (fun _ h => h) rfl rfl hdg kk
theorem gM_32 (E : EN p s m args meth c0 RX16 cc nL ret) (hK : KK D clsA G s) (hP : PM D G ad σ H) (hdg : decode cc pc = .ok (.getfield 75, 3)) (kk : W p l e R s m args below meth c0 H locs cells slots Q (F0 m (pc + 3) ls (.ref (ad 632) :: rest))) : W p l e R s m args below meth c0 H locs cells slots Q (F0 m pc ls (.ref (ad 500) :: rest)) :=
  p_get E.1.1 E.1.2.1 E.1.2.2.2.2 in_X16 E.1.2.2.2.1 hK hP dM_500 rfl 32 (by decide) (E.1.2.2.2.2 _ q1712) (fun _ h => h) rfl rfl hdg kk
theorem gM_33 (E : EN p s m args meth c0 RX16 cc nL ret) (hK : KK D clsA G s) (hP : PM D G ad σ H) (hdg : decode cc pc = .ok (.getfield 79, 3)) (kk : W p l e R s m args below meth c0 H locs cells slots Q (F0 m (pc + 3) ls (.ref (ad 633) :: rest))) : W p l e R s m args below meth c0 H locs cells slots Q (F0 m pc ls (.ref (ad 500) :: rest)) :=
  p_get E.1.1 E.1.2.1 E.1.2.2.2.2 in_X16 E.1.2.2.2.1 hK hP dM_500 rfl 33 (by decide) (E.1.2.2.2.2 _ q1713) (fun _ h => h) rfl rfl hdg kk
theorem gM_34 (E : EN p s m args meth c0 RX16 cc nL ret) (hK : KK D clsA G s) (hP : PM D G ad σ H) (hdg : decode cc pc = .ok (.getfield 82, 3)) (kk : W p l e R s m args below meth c0 H locs cells slots Q (F0 m (pc + 3) ls (.ref (ad 634) :: rest))) : W p l e R s m args below meth c0 H locs cells slots Q (F0 m pc ls (.ref (ad 500) :: rest)) :=
  p_get E.1.1 E.1.2.1 E.1.2.2.2.2 in_X16 E.1.2.2.2.1 hK hP dM_500 rfl 34 (by decide) (E.1.2.2.2.2 _ q1714) (fun _ h => h) rfl rfl hdg kk
theorem gM_35 (E : EN p s m args meth c0 RX16 cc nL ret) (hK : KK D clsA G s) (hP : PM D G ad σ H) (hdg : decode cc pc = .ok (.getfield 85, 3)) (kk : W p l e R s m args below meth c0 H locs cells slots Q (F0 m (pc + 3) ls (.ref (ad 635) :: rest))) : W p l e R s m args below meth c0 H locs cells slots Q (F0 m pc ls (.ref (ad 500) :: rest)) :=
  p_get E.1.1 E.1.2.1 E.1.2.2.2.2 in_X16 E.1.2.2.2.1 hK hP dM_500 rfl 35 (by decide) (E.1.2.2.2.2 _ q1715) (fun _ h => h) rfl rfl hdg kk
theorem gM_36 (E : EN p s m args meth c0 RX16 cc nL ret) (hK : KK D clsA G s) (hP : PM D G ad σ H) (hdg : decode cc pc = .ok (.getfield 88, 3)) (kk : W p l e R s m args below meth c0 H locs cells slots Q (F0 m (pc + 3) ls (.ref (ad 636) :: rest))) : W p l e R s m args below meth c0 H locs cells slots Q (F0 m pc ls (.ref (ad 500) :: rest)) :=
  p_get E.1.1 E.1.2.1 E.1.2.2.2.2 in_X16 E.1.2.2.2.1 hK hP dM_500 rfl 36 (by decide) (E.1.2.2.2.2 _ q1716) (fun _ h => h) rfl rfl hdg kk
theorem gM_37 (E : EN p s m args meth c0 RX16 cc nL ret) (hK : KK D clsA G s) (hP : PM D G ad σ H) (hdg : decode cc pc = .ok (.getfield 91, 3)) (kk : W p l e R s m args below meth c0 H locs cells slots Q (F0 m (pc + 3) ls (.ref (ad 637) :: rest))) : W p l e R s m args below meth c0 H locs cells slots Q (F0 m pc ls (.ref (ad 500) :: rest)) :=
  p_get E.1.1 E.1.2.1 E.1.2.2.2.2 in_X16 E.1.2.2.2.1 hK hP dM_500 rfl 37 (by decide) (E.1.2.2.2.2 _ q1717) (fun _ h => h) rfl rfl hdg kk
theorem gM_38 {v : Int64} (E : EN p s m args meth c0 RX16 cc nL ret) (hK : KK D clsA G s) (hP : PM D G ad σ H) (hv : (σ.2.1 538) = v) (hdg : decode cc pc = .ok (.getfield 371, 3)) (kk : W p l e R s m args below meth c0 H locs cells slots Q (F0 m (pc + 3) ls (.long v :: rest))) : W p l e R s m args below meth c0 H locs cells slots Q (F0 m pc ls (.ref (ad 500) :: rest)) :=
  p_get E.1.1 E.1.2.1 E.1.2.2.2.2 in_X16 E.1.2.2.2.1 hK hP dM_500 rfl 38 (by decide) (E.1.2.2.2.2 _ q1718) (fun _ h => h) rfl (congrArg Value.long hv) hdg kk
theorem uM_38 {v : Int64} {σ1 : Sto} (E : EN p s m args meth c0 RX16 cc nL ret) (hK : KK D clsA G s) (hP : PM D G ad σ H) (hS : va_S A s.heap H locs) (hA : A (ad 500)) (hσ : zL σ 538 v = σ1) (hdg : decode cc pc = .ok (.putfield 371, 3)) (kk : ∀ (H1 : Heap) (locs1 : List Loc), PM D G ad σ1 H1 → va_S A s.heap H1 locs1 → W p l e R s m args below meth c0 H1 locs1 cells slots Q (F0 m (pc + 3) ls rest)) : W p l e R s m args below meth c0 H locs cells slots Q (F0 m pc ls (.long v :: .ref (ad 500) :: rest)) :=
  p_putl E.1.1 E.1.2.1 E.1.2.2.2.2 in_X16 tyX16 tyX16_ok nmX16 E.1.2.2.2.1 hK hP hS hA dM_500 rfl 38 (by decide) (E.1.2.2.2.2 _ q1718) (fun _ h => h) rfl rfl rfl hσ hdg kk
theorem gM_39 {v : Int64} (E : EN p s m args meth c0 RX16 cc nL ret) (hK : KK D clsA G s) (hP : PM D G ad σ H) (hv : (σ.2.1 539) = v) (hdg : decode cc pc = .ok (.getfield 375, 3)) (kk : W p l e R s m args below meth c0 H locs cells slots Q (F0 m (pc + 3) ls (.long v :: rest))) : W p l e R s m args below meth c0 H locs cells slots Q (F0 m pc ls (.ref (ad 500) :: rest)) :=
  p_get E.1.1 E.1.2.1 E.1.2.2.2.2 in_X16 E.1.2.2.2.1 hK hP dM_500 rfl 39 (by decide) (E.1.2.2.2.2 _ q1719) (fun _ h => h) rfl (congrArg Value.long hv) hdg kk
theorem uM_39 {v : Int64} {σ1 : Sto} (E : EN p s m args meth c0 RX16 cc nL ret) (hK : KK D clsA G s) (hP : PM D G ad σ H) (hS : va_S A s.heap H locs) (hA : A (ad 500)) (hσ : zL σ 539 v = σ1) (hdg : decode cc pc = .ok (.putfield 375, 3)) (kk : ∀ (H1 : Heap) (locs1 : List Loc), PM D G ad σ1 H1 → va_S A s.heap H1 locs1 → W p l e R s m args below meth c0 H1 locs1 cells slots Q (F0 m (pc + 3) ls rest)) : W p l e R s m args below meth c0 H locs cells slots Q (F0 m pc ls (.long v :: .ref (ad 500) :: rest)) :=
  p_putl E.1.1 E.1.2.1 E.1.2.2.2.2 in_X16 tyX16 tyX16_ok nmX16 E.1.2.2.2.1 hK hP hS hA dM_500 rfl 39 (by decide) (E.1.2.2.2.2 _ q1719) (fun _ h => h) rfl rfl rfl hσ hdg kk
theorem gM_40 (E : EN p s m args meth c0 RX16 cc nL ret) (hK : KK D clsA G s) (hP : PM D G ad σ H) (hdg : decode cc pc = .ok (.getfield 95, 3)) (kk : W p l e R s m args below meth c0 H locs cells slots Q (F0 m (pc + 3) ls (.ref (ad 640) :: rest))) : W p l e R s m args below meth c0 H locs cells slots Q (F0 m pc ls (.ref (ad 500) :: rest)) :=
  p_get E.1.1 E.1.2.1 E.1.2.2.2.2 in_X16 E.1.2.2.2.1 hK hP dM_500 rfl 40 (by decide) (E.1.2.2.2.2 _ q1720) (fun _ h => h) rfl rfl hdg kk
theorem gM_41 {v : Int32} (E : EN p s m args meth c0 RX16 cc nL ret) (hK : KK D clsA G s) (hP : PM D G ad σ H) (hv : (σ.1 541) = v) (hdg : decode cc pc = .ok (.getfield 249, 3)) (kk : W p l e R s m args below meth c0 H locs cells slots Q (F0 m (pc + 3) ls (.int v :: rest))) : W p l e R s m args below meth c0 H locs cells slots Q (F0 m pc ls (.ref (ad 500) :: rest)) :=
  p_get E.1.1 E.1.2.1 E.1.2.2.2.2 in_X16 E.1.2.2.2.1 hK hP dM_500 rfl 41 (by decide) (E.1.2.2.2.2 _ q1721) (fun _ h => h) rfl (congrArg Value.int hv) hdg kk
theorem uM_41 {v : Int32} {σ1 : Sto} (E : EN p s m args meth c0 RX16 cc nL ret) (hK : KK D clsA G s) (hP : PM D G ad σ H) (hS : va_S A s.heap H locs) (hA : A (ad 500)) (hσ : zI σ 541 v = σ1) (hdg : decode cc pc = .ok (.putfield 249, 3)) (kk : ∀ (H1 : Heap) (locs1 : List Loc), PM D G ad σ1 H1 → va_S A s.heap H1 locs1 → W p l e R s m args below meth c0 H1 locs1 cells slots Q (F0 m (pc + 3) ls rest)) : W p l e R s m args below meth c0 H locs cells slots Q (F0 m pc ls (.int v :: .ref (ad 500) :: rest)) :=
  p_puti E.1.1 E.1.2.1 E.1.2.2.2.2 in_X16 tyX16 tyX16_ok nmX16 E.1.2.2.2.1 hK hP hS hA dM_500 rfl 41 (by decide) (E.1.2.2.2.2 _ q1721) (fun _ h => h) rfl rfl rfl rfl rfl hσ hdg kk
theorem gM_42 (E : EN p s m args meth c0 RX16 cc nL ret) (hK : KK D clsA G s) (hP : PM D G ad σ H) (hdg : decode cc pc = .ok (.getfield 98, 3)) (kk : W p l e R s m args below meth c0 H locs cells slots Q (F0 m (pc + 3) ls (.ref (ad 642) :: rest))) : W p l e R s m args below meth c0 H locs cells slots Q (F0 m pc ls (.ref (ad 500) :: rest)) :=
  p_get E.1.1 E.1.2.1 E.1.2.2.2.2 in_X16 E.1.2.2.2.1 hK hP dM_500 rfl 42 (by decide) (E.1.2.2.2.2 _ q1722) (fun _ h => h) rfl rfl hdg kk
theorem gM_43 {v : Int32} (E : EN p s m args meth c0 RX16 cc nL ret) (hK : KK D clsA G s) (hP : PM D G ad σ H) (hv : (σ.1 543) = v) (hdg : decode cc pc = .ok (.getfield 246, 3)) (kk : W p l e R s m args below meth c0 H locs cells slots Q (F0 m (pc + 3) ls (.int v :: rest))) : W p l e R s m args below meth c0 H locs cells slots Q (F0 m pc ls (.ref (ad 500) :: rest)) :=
  p_get E.1.1 E.1.2.1 E.1.2.2.2.2 in_X16 E.1.2.2.2.1 hK hP dM_500 rfl 43 (by decide) (E.1.2.2.2.2 _ q1723) (fun _ h => h) rfl (congrArg Value.int hv) hdg kk
theorem uM_43 {v : Int32} {σ1 : Sto} (E : EN p s m args meth c0 RX16 cc nL ret) (hK : KK D clsA G s) (hP : PM D G ad σ H) (hS : va_S A s.heap H locs) (hA : A (ad 500)) (hσ : zI σ 543 v = σ1) (hdg : decode cc pc = .ok (.putfield 246, 3)) (kk : ∀ (H1 : Heap) (locs1 : List Loc), PM D G ad σ1 H1 → va_S A s.heap H1 locs1 → W p l e R s m args below meth c0 H1 locs1 cells slots Q (F0 m (pc + 3) ls rest)) : W p l e R s m args below meth c0 H locs cells slots Q (F0 m pc ls (.int v :: .ref (ad 500) :: rest)) :=
  p_puti E.1.1 E.1.2.1 E.1.2.2.2.2 in_X16 tyX16 tyX16_ok nmX16 E.1.2.2.2.1 hK hP hS hA dM_500 rfl 43 (by decide) (E.1.2.2.2.2 _ q1723) (fun _ h => h) rfl rfl rfl rfl rfl hσ hdg kk
theorem gM_44 (E : EN p s m args meth c0 RX16 cc nL ret) (hK : KK D clsA G s) (hP : PM D G ad σ H) (hdg : decode cc pc = .ok (.getfield 101, 3)) (kk : W p l e R s m args below meth c0 H locs cells slots Q (F0 m (pc + 3) ls (.ref (ad 644) :: rest))) : W p l e R s m args below meth c0 H locs cells slots Q (F0 m pc ls (.ref (ad 500) :: rest)) :=
  p_get E.1.1 E.1.2.1 E.1.2.2.2.2 in_X16 E.1.2.2.2.1 hK hP dM_500 rfl 44 (by decide) (E.1.2.2.2.2 _ q1724) (fun _ h => h) rfl rfl hdg kk
theorem gM_45 {v : Int32} (E : EN p s m args meth c0 RX16 cc nL ret) (hK : KK D clsA G s) (hP : PM D G ad σ H) (hv : (σ.1 545) = v) (hdg : decode cc pc = .ok (.getfield 398, 3)) (kk : W p l e R s m args below meth c0 H locs cells slots Q (F0 m (pc + 3) ls (.int v :: rest))) : W p l e R s m args below meth c0 H locs cells slots Q (F0 m pc ls (.ref (ad 500) :: rest)) :=
  p_get E.1.1 E.1.2.1 E.1.2.2.2.2 in_X16 E.1.2.2.2.1 hK hP dM_500 rfl 45 (by decide) (E.1.2.2.2.2 _ q1725) (fun _ h => h) rfl (congrArg Value.int hv) hdg kk
theorem uM_45 {v : Int32} {σ1 : Sto} (E : EN p s m args meth c0 RX16 cc nL ret) (hK : KK D clsA G s) (hP : PM D G ad σ H) (hS : va_S A s.heap H locs) (hA : A (ad 500)) (hσ : zI σ 545 v = σ1) (hdg : decode cc pc = .ok (.putfield 398, 3)) (kk : ∀ (H1 : Heap) (locs1 : List Loc), PM D G ad σ1 H1 → va_S A s.heap H1 locs1 → W p l e R s m args below meth c0 H1 locs1 cells slots Q (F0 m (pc + 3) ls rest)) : W p l e R s m args below meth c0 H locs cells slots Q (F0 m pc ls (.int v :: .ref (ad 500) :: rest)) :=
  p_puti E.1.1 E.1.2.1 E.1.2.2.2.2 in_X16 tyX16 tyX16_ok nmX16 E.1.2.2.2.1 hK hP hS hA dM_500 rfl 45 (by decide) (E.1.2.2.2.2 _ q1725) (fun _ h => h) rfl rfl rfl rfl rfl hσ hdg kk
theorem gM_46 {v : Int32} (E : EN p s m args meth c0 RX16 cc nL ret) (hK : KK D clsA G s) (hP : PM D G ad σ H) (hv : (σ.1 546) = v) (hdg : decode cc pc = .ok (.getfield 401, 3)) (kk : W p l e R s m args below meth c0 H locs cells slots Q (F0 m (pc + 3) ls (.int v :: rest))) : W p l e R s m args below meth c0 H locs cells slots Q (F0 m pc ls (.ref (ad 500) :: rest)) :=
  p_get E.1.1 E.1.2.1 E.1.2.2.2.2 in_X16 E.1.2.2.2.1 hK hP dM_500 rfl 46 (by decide) (E.1.2.2.2.2 _ q1726) (fun _ h => h) rfl (congrArg Value.int hv) hdg kk
theorem uM_46 {v : Int32} {σ1 : Sto} (E : EN p s m args meth c0 RX16 cc nL ret) (hK : KK D clsA G s) (hP : PM D G ad σ H) (hS : va_S A s.heap H locs) (hA : A (ad 500)) (hσ : zI σ 546 v = σ1) (hdg : decode cc pc = .ok (.putfield 401, 3)) (kk : ∀ (H1 : Heap) (locs1 : List Loc), PM D G ad σ1 H1 → va_S A s.heap H1 locs1 → W p l e R s m args below meth c0 H1 locs1 cells slots Q (F0 m (pc + 3) ls rest)) : W p l e R s m args below meth c0 H locs cells slots Q (F0 m pc ls (.int v :: .ref (ad 500) :: rest)) :=
  p_puti E.1.1 E.1.2.1 E.1.2.2.2.2 in_X16 tyX16 tyX16_ok nmX16 E.1.2.2.2.1 hK hP hS hA dM_500 rfl 46 (by decide) (E.1.2.2.2.2 _ q1726) (fun _ h => h) rfl rfl rfl rfl rfl hσ hdg kk
theorem gM_47 {v : Int64} (E : EN p s m args meth c0 RX16 cc nL ret) (hK : KK D clsA G s) (hP : PM D G ad σ H) (hv : (σ.2.1 547) = v) (hdg : decode cc pc = .ok (.getfield 407, 3)) (kk : W p l e R s m args below meth c0 H locs cells slots Q (F0 m (pc + 3) ls (.long v :: rest))) : W p l e R s m args below meth c0 H locs cells slots Q (F0 m pc ls (.ref (ad 500) :: rest)) :=
  p_get E.1.1 E.1.2.1 E.1.2.2.2.2 in_X16 E.1.2.2.2.1 hK hP dM_500 rfl 47 (by decide) (E.1.2.2.2.2 _ q1727) (fun _ h => h) rfl (congrArg Value.long hv) hdg kk
theorem uM_47 {v : Int64} {σ1 : Sto} (E : EN p s m args meth c0 RX16 cc nL ret) (hK : KK D clsA G s) (hP : PM D G ad σ H) (hS : va_S A s.heap H locs) (hA : A (ad 500)) (hσ : zL σ 547 v = σ1) (hdg : decode cc pc = .ok (.putfield 407, 3)) (kk : ∀ (H1 : Heap) (locs1 : List Loc), PM D G ad σ1 H1 → va_S A s.heap H1 locs1 → W p l e R s m args below meth c0 H1 locs1 cells slots Q (F0 m (pc + 3) ls rest)) : W p l e R s m args below meth c0 H locs cells slots Q (F0 m pc ls (.long v :: .ref (ad 500) :: rest)) :=
  p_putl E.1.1 E.1.2.1 E.1.2.2.2.2 in_X16 tyX16 tyX16_ok nmX16 E.1.2.2.2.1 hK hP hS hA dM_500 rfl 47 (by decide) (E.1.2.2.2.2 _ q1727) (fun _ h => h) rfl rfl rfl hσ hdg kk
theorem gM_48 (E : EN p s m args meth c0 RX16 cc nL ret) (hK : KK D clsA G s) (hP : PM D G ad σ H) (hdg : decode cc pc = .ok (.getfield 104, 3)) (kk : W p l e R s m args below meth c0 H locs cells slots Q (F0 m (pc + 3) ls (.ref (ad 648) :: rest))) : W p l e R s m args below meth c0 H locs cells slots Q (F0 m pc ls (.ref (ad 500) :: rest)) :=
  p_get E.1.1 E.1.2.1 E.1.2.2.2.2 in_X16 E.1.2.2.2.1 hK hP dM_500 rfl 48 (by decide) (E.1.2.2.2.2 _ q1728) (fun _ h => h) rfl rfl hdg kk
theorem gM_49 (E : EN p s m args meth c0 RX16 cc nL ret) (hK : KK D clsA G s) (hP : PM D G ad σ H) (hdg : decode cc pc = .ok (.getfield 107, 3)) (kk : W p l e R s m args below meth c0 H locs cells slots Q (F0 m (pc + 3) ls (.ref (ad 649) :: rest))) : W p l e R s m args below meth c0 H locs cells slots Q (F0 m pc ls (.ref (ad 500) :: rest)) :=
  p_get E.1.1 E.1.2.1 E.1.2.2.2.2 in_X16 E.1.2.2.2.1 hK hP dM_500 rfl 49 (by decide) (E.1.2.2.2.2 _ q1729) (fun _ h => h) rfl rfl hdg kk
theorem gM_50 (E : EN p s m args meth c0 RX16 cc nL ret) (hK : KK D clsA G s) (hP : PM D G ad σ H) (hdg : decode cc pc = .ok (.getfield 110, 3)) (kk : W p l e R s m args below meth c0 H locs cells slots Q (F0 m (pc + 3) ls (.ref (ad 650) :: rest))) : W p l e R s m args below meth c0 H locs cells slots Q (F0 m pc ls (.ref (ad 500) :: rest)) :=
  p_get E.1.1 E.1.2.1 E.1.2.2.2.2 in_X16 E.1.2.2.2.1 hK hP dM_500 rfl 50 (by decide) (E.1.2.2.2.2 _ q1730) (fun _ h => h) rfl rfl hdg kk
theorem gM_51 (E : EN p s m args meth c0 RX16 cc nL ret) (hK : KK D clsA G s) (hP : PM D G ad σ H) (hdg : decode cc pc = .ok (.getfield 113, 3)) (kk : W p l e R s m args below meth c0 H locs cells slots Q (F0 m (pc + 3) ls (.ref (ad 651) :: rest))) : W p l e R s m args below meth c0 H locs cells slots Q (F0 m pc ls (.ref (ad 500) :: rest)) :=
  p_get E.1.1 E.1.2.1 E.1.2.2.2.2 in_X16 E.1.2.2.2.1 hK hP dM_500 rfl 51 (by decide) (E.1.2.2.2.2 _ q1731) (fun _ h => h) rfl rfl hdg kk
theorem gM_52 (E : EN p s m args meth c0 RX16 cc nL ret) (hK : KK D clsA G s) (hP : PM D G ad σ H) (hdg : decode cc pc = .ok (.getfield 117, 3)) (kk : W p l e R s m args below meth c0 H locs cells slots Q (F0 m (pc + 3) ls (.ref (ad 652) :: rest))) : W p l e R s m args below meth c0 H locs cells slots Q (F0 m pc ls (.ref (ad 500) :: rest)) :=
  p_get E.1.1 E.1.2.1 E.1.2.2.2.2 in_X16 E.1.2.2.2.1 hK hP dM_500 rfl 52 (by decide) (E.1.2.2.2.2 _ q1732) (fun _ h => h) rfl rfl hdg kk
theorem gM_53 (E : EN p s m args meth c0 RX16 cc nL ret) (hK : KK D clsA G s) (hP : PM D G ad σ H) (hdg : decode cc pc = .ok (.getfield 120, 3)) (kk : W p l e R s m args below meth c0 H locs cells slots Q (F0 m (pc + 3) ls (.ref (ad 653) :: rest))) : W p l e R s m args below meth c0 H locs cells slots Q (F0 m pc ls (.ref (ad 500) :: rest)) :=
  p_get E.1.1 E.1.2.1 E.1.2.2.2.2 in_X16 E.1.2.2.2.1 hK hP dM_500 rfl 53 (by decide) (E.1.2.2.2.2 _ q1733) (fun _ h => h) rfl rfl hdg kk
theorem gM_54 {v : Int32} (E : EN p s m args meth c0 RX16 cc nL ret) (hK : KK D clsA G s) (hP : PM D G ad σ H) (hv : (σ.1 554) = v) (hdg : decode cc pc = .ok (.getfield 252, 3)) (kk : W p l e R s m args below meth c0 H locs cells slots Q (F0 m (pc + 3) ls (.int v :: rest))) : W p l e R s m args below meth c0 H locs cells slots Q (F0 m pc ls (.ref (ad 500) :: rest)) :=
  p_get E.1.1 E.1.2.1 E.1.2.2.2.2 in_X16 E.1.2.2.2.1 hK hP dM_500 rfl 54 (by decide) (E.1.2.2.2.2 _ q1734) (fun _ h => h) rfl (congrArg Value.int hv) hdg kk
theorem uM_54 {v : Int32} {σ1 : Sto} (E : EN p s m args meth c0 RX16 cc nL ret) (hK : KK D clsA G s) (hP : PM D G ad σ H) (hS : va_S A s.heap H locs) (hA : A (ad 500)) (hz : narrow .boolean (.int v) = .int v) (hz2 : fits .boolean (.int v) = true) (hσ : zI σ 554 v = σ1) (hdg : decode cc pc = .ok (.putfield 252, 3)) (kk : ∀ (H1 : Heap) (locs1 : List Loc), PM D G ad σ1 H1 → va_S A s.heap H1 locs1 → W p l e R s m args below meth c0 H1 locs1 cells slots Q (F0 m (pc + 3) ls rest)) : W p l e R s m args below meth c0 H locs cells slots Q (F0 m pc ls (.int v :: .ref (ad 500) :: rest)) :=
  p_puti E.1.1 E.1.2.1 E.1.2.2.2.2 in_X16 tyX16 tyX16_ok nmX16 E.1.2.2.2.1 hK hP hS hA dM_500 rfl 54 (by decide) (E.1.2.2.2.2 _ q1734) (fun _ h => h) rfl rfl hz hz2 rfl hσ hdg kk
theorem gM_55 {v : Int32} (E : EN p s m args meth c0 RX16 cc nL ret) (hK : KK D clsA G s) (hP : PM D G ad σ H) (hv : (σ.1 555) = v) (hdg : decode cc pc = .ok (.getfield 463, 3)) (kk : W p l e R s m args below meth c0 H locs cells slots Q (F0 m (pc + 3) ls (.int v :: rest))) : W p l e R s m args below meth c0 H locs cells slots Q (F0 m pc ls (.ref (ad 500) :: rest)) :=
  p_get E.1.1 E.1.2.1 E.1.2.2.2.2 in_X16 E.1.2.2.2.1 hK hP dM_500 rfl 55 (by decide) (E.1.2.2.2.2 _ q1735) (fun _ h => h) rfl (congrArg Value.int hv) hdg kk
theorem uM_55 {v : Int32} {σ1 : Sto} (E : EN p s m args meth c0 RX16 cc nL ret) (hK : KK D clsA G s) (hP : PM D G ad σ H) (hS : va_S A s.heap H locs) (hA : A (ad 500)) (hσ : zI σ 555 v = σ1) (hdg : decode cc pc = .ok (.putfield 463, 3)) (kk : ∀ (H1 : Heap) (locs1 : List Loc), PM D G ad σ1 H1 → va_S A s.heap H1 locs1 → W p l e R s m args below meth c0 H1 locs1 cells slots Q (F0 m (pc + 3) ls rest)) : W p l e R s m args below meth c0 H locs cells slots Q (F0 m pc ls (.int v :: .ref (ad 500) :: rest)) :=
  p_puti E.1.1 E.1.2.1 E.1.2.2.2.2 in_X16 tyX16 tyX16_ok nmX16 E.1.2.2.2.1 hK hP hS hA dM_500 rfl 55 (by decide) (E.1.2.2.2.2 _ q1735) (fun _ h => h) rfl rfl rfl rfl rfl hσ hdg kk
theorem gM_56 {v : Int32} (E : EN p s m args meth c0 RX16 cc nL ret) (hK : KK D clsA G s) (hP : PM D G ad σ H) (hv : (σ.1 556) = v) (hdg : decode cc pc = .ok (.getfield 474, 3)) (kk : W p l e R s m args below meth c0 H locs cells slots Q (F0 m (pc + 3) ls (.int v :: rest))) : W p l e R s m args below meth c0 H locs cells slots Q (F0 m pc ls (.ref (ad 500) :: rest)) :=
  p_get E.1.1 E.1.2.1 E.1.2.2.2.2 in_X16 E.1.2.2.2.1 hK hP dM_500 rfl 56 (by decide) (E.1.2.2.2.2 _ q1736) (fun _ h => h) rfl (congrArg Value.int hv) hdg kk
theorem uM_56 {v : Int32} {σ1 : Sto} (E : EN p s m args meth c0 RX16 cc nL ret) (hK : KK D clsA G s) (hP : PM D G ad σ H) (hS : va_S A s.heap H locs) (hA : A (ad 500)) (hσ : zI σ 556 v = σ1) (hdg : decode cc pc = .ok (.putfield 474, 3)) (kk : ∀ (H1 : Heap) (locs1 : List Loc), PM D G ad σ1 H1 → va_S A s.heap H1 locs1 → W p l e R s m args below meth c0 H1 locs1 cells slots Q (F0 m (pc + 3) ls rest)) : W p l e R s m args below meth c0 H locs cells slots Q (F0 m pc ls (.int v :: .ref (ad 500) :: rest)) :=
  p_puti E.1.1 E.1.2.1 E.1.2.2.2.2 in_X16 tyX16 tyX16_ok nmX16 E.1.2.2.2.1 hK hP hS hA dM_500 rfl 56 (by decide) (E.1.2.2.2.2 _ q1736) (fun _ h => h) rfl rfl rfl rfl rfl hσ hdg kk
theorem gM_57 (E : EN p s m args meth c0 RX16 cc nL ret) (hK : KK D clsA G s) (hP : PM D G ad σ H) (hdg : decode cc pc = .ok (.getfield 123, 3)) (kk : W p l e R s m args below meth c0 H locs cells slots Q (F0 m (pc + 3) ls (.ref (ad 657) :: rest))) : W p l e R s m args below meth c0 H locs cells slots Q (F0 m pc ls (.ref (ad 500) :: rest)) :=
  p_get E.1.1 E.1.2.1 E.1.2.2.2.2 in_X16 E.1.2.2.2.1 hK hP dM_500 rfl 57 (by decide) (E.1.2.2.2.2 _ q1737) (fun _ h => h) rfl rfl hdg kk
theorem gM_58 (E : EN p s m args meth c0 RX16 cc nL ret) (hK : KK D clsA G s) (hP : PM D G ad σ H) (hdg : decode cc pc = .ok (.getfield 126, 3)) (kk : W p l e R s m args below meth c0 H locs cells slots Q (F0 m (pc + 3) ls (.ref (ad 658) :: rest))) : W p l e R s m args below meth c0 H locs cells slots Q (F0 m pc ls (.ref (ad 500) :: rest)) :=
  p_get E.1.1 E.1.2.1 E.1.2.2.2.2 in_X16 E.1.2.2.2.1 hK hP dM_500 rfl 58 (by decide) (E.1.2.2.2.2 _ q1738) (fun _ h => h) rfl rfl hdg kk
theorem gM_59 (E : EN p s m args meth c0 RX16 cc nL ret) (hK : KK D clsA G s) (hP : PM D G ad σ H) (hdg : decode cc pc = .ok (.getfield 129, 3)) (kk : W p l e R s m args below meth c0 H locs cells slots Q (F0 m (pc + 3) ls (.ref (ad 659) :: rest))) : W p l e R s m args below meth c0 H locs cells slots Q (F0 m pc ls (.ref (ad 500) :: rest)) :=
  p_get E.1.1 E.1.2.1 E.1.2.2.2.2 in_X16 E.1.2.2.2.1 hK hP dM_500 rfl 59 (by decide) (E.1.2.2.2.2 _ q1739) (fun _ h => h) rfl rfl hdg kk
end MFIELDS
theorem bp_m2 : (Int8.ofInt (-2)).toInt32 = (-2) := by decide
theorem bp_6 : (Int8.ofInt 6).toInt32 = 6 := by decide
theorem bp_7 : (Int8.ofInt 7).toInt32 = 7 := by decide
theorem bp_8 : (Int8.ofInt 8).toInt32 = 8 := by decide
theorem bp_9 : (Int8.ofInt 9).toInt32 = 9 := by decide
theorem bp_10 : (Int8.ofInt 10).toInt32 = 10 := by decide
theorem bp_11 : (Int8.ofInt 11).toInt32 = 11 := by decide
theorem bp_12 : (Int8.ofInt 12).toInt32 = 12 := by decide
theorem bp_13 : (Int8.ofInt 13).toInt32 = 13 := by decide
theorem bp_14 : (Int8.ofInt 14).toInt32 = 14 := by decide
theorem bp_15 : (Int8.ofInt 15).toInt32 = 15 := by decide
theorem bp_16 : (Int8.ofInt 16).toInt32 = 16 := by decide
theorem bp_18 : (Int8.ofInt 18).toInt32 = 18 := by decide
theorem bp_20 : (Int8.ofInt 20).toInt32 = 20 := by decide
theorem bp_24 : (Int8.ofInt 24).toInt32 = 24 := by decide
theorem bp_30 : (Int8.ofInt 30).toInt32 = 30 := by decide
theorem bp_32 : (Int8.ofInt 32).toInt32 = 32 := by decide
theorem bp_48 : (Int8.ofInt 48).toInt32 = 48 := by decide
theorem bp_57 : (Int8.ofInt 57).toInt32 = 57 := by decide
theorem bp_59 : (Int8.ofInt 59).toInt32 = 59 := by decide
theorem bp_64 : (Int8.ofInt 64).toInt32 = 64 := by decide
theorem bp_80 : (Int8.ofInt 80).toInt32 = 80 := by decide
theorem bp_96 : (Int8.ofInt 96).toInt32 = 96 := by decide
theorem bp_97 : (Int8.ofInt 97).toInt32 = 97 := by decide
theorem bp_99 : (Int8.ofInt 99).toInt32 = 99 := by decide
theorem bp_100 : (Int8.ofInt 100).toInt32 = 100 := by decide
theorem bp_122 : (Int8.ofInt 122).toInt32 = 122 := by decide
theorem ic_m1 : Int32.ofInt (-1) = (-1) := by decide
theorem ic_0 : Int32.ofInt 0 = 0 := by decide
theorem ic_1 : Int32.ofInt 1 = 1 := by decide
theorem ic_2 : Int32.ofInt 2 = 2 := by decide
theorem ic_3 : Int32.ofInt 3 = 3 := by decide
theorem ic_4 : Int32.ofInt 4 = 4 := by decide
theorem ic_5 : Int32.ofInt 5 = 5 := by decide
theorem lc_0 : Int64.ofNat ((0 : Fin 2) : Nat) = 0 := by decide
theorem lc_1 : Int64.ofNat ((1 : Fin 2) : Nat) = 1 := by decide
theorem sp_168 : (Int16.ofInt 168).toInt32 = 168 := by decide
theorem sp_255 : (Int16.ofInt 255).toInt32 = 255 := by decide
theorem sp_600 : (Int16.ofInt 600).toInt32 = 600 := by decide
theorem sp_7290 : (Int16.ofInt 7290).toInt32 = 7290 := by decide
theorem sp_14580 : (Int16.ofInt 14580).toInt32 = 14580 := by decide
theorem sp_21870 : (Int16.ofInt 21870).toInt32 = 21870 := by decide
