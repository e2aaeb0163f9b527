section MWALK
variable {p : Program} {l : Launch} {e : Env} {R : Room} {s : State} {m : MethodId} {args : Array Value} {below : List Frame} {meth : Method} {c0 : Code} {H : Heap} {locs : List Loc} {cells slots : Nat} {Q : State → Prop}
variable {cc : ByteArray} {nL : Nat} {ret : Option FieldType} {pc : Nat} {ls : Array Slot} {rest : List Value} {D : va_G} {A : Nat → Prop} {G : Nat → ClassId} {ad : Nat → Nat} {σ : Sto}
/-! worth(I)J -/
def sgM_worth (σ : Sto) (w0 : Int32) (w1 : Nat → Int32) (w2 : Nat → Int32) (w3 : Nat → Int32) (w4 : Nat → Int64) (w5 : Nat → Int64) (w6 : Nat → Int64) : Sto := aL (aL (aL (aI (aI (aI (zI σ 502 w0) 631 w1) 632 w2) 636 w3) 630 w4) 635 w5) 637 w6
theorem sgM_worth_self (σ : Sto) : sgM_worth σ (σ.1 502) (σ.2.2.1 631) (σ.2.2.1 632) (σ.2.2.1 636) (σ.2.2.2.1 630) (σ.2.2.2.1 635) (σ.2.2.2.1 637) = σ := by
  unfold sgM_worth
  simp only [zI_self, zL_self, aI_self, aL_self]
theorem sgM_worth_zI502 {σ : Sto} {w0 : Int32} {w1 : Nat → Int32} {w2 : Nat → Int32} {w3 : Nat → Int32} {w4 : Nat → Int64} {w5 : Nat → Int64} {w6 : Nat → Int64} {g : Int32} : zI (sgM_worth σ w0 w1 w2 w3 w4 w5 w6) 502 g = sgM_worth σ g w1 w2 w3 w4 w5 w6 := (cm_zI_aL _ _ _ _ _).trans (congrArg (fun z => aL z 637 w6) ((cm_zI_aL _ _ _ _ _).trans (congrArg (fun z => aL z 635 w5) ((cm_zI_aL _ _ _ _ _).trans (congrArg (fun z => aL z 630 w4) ((cm_zI_aI _ _ _ _ _).trans (congrArg (fun z => aI z 636 w3) ((cm_zI_aI _ _ _ _ _).trans (congrArg (fun z => aI z 632 w2) ((cm_zI_aI _ _ _ _ _).trans (congrArg (fun z => aI z 631 w1) (zI_zI _ 502 _ _))))))))))))
theorem sgM_worth_aI631 {σ : Sto} {w0 : Int32} {w1 : Nat → Int32} {w2 : Nat → Int32} {w3 : Nat → Int32} {w4 : Nat → Int64} {w5 : Nat → Int64} {w6 : Nat → Int64} {g : Nat → Int32} : aI (sgM_worth σ w0 w1 w2 w3 w4 w5 w6) 631 g = sgM_worth σ w0 g w2 w3 w4 w5 w6 := (cm_aI_aL _ _ _ _ _).trans (congrArg (fun z => aL z 637 w6) ((cm_aI_aL _ _ _ _ _).trans (congrArg (fun z => aL z 635 w5) ((cm_aI_aL _ _ _ _ _).trans (congrArg (fun z => aL z 630 w4) ((aI_comm _ (by decide) _ _).trans (congrArg (fun z => aI z 636 w3) ((aI_comm _ (by decide) _ _).trans (congrArg (fun z => aI z 632 w2) (aI_aI _ 631 _ _))))))))))
theorem sgM_worth_aI632 {σ : Sto} {w0 : Int32} {w1 : Nat → Int32} {w2 : Nat → Int32} {w3 : Nat → Int32} {w4 : Nat → Int64} {w5 : Nat → Int64} {w6 : Nat → Int64} {g : Nat → Int32} : aI (sgM_worth σ w0 w1 w2 w3 w4 w5 w6) 632 g = sgM_worth σ w0 w1 g w3 w4 w5 w6 := (cm_aI_aL _ _ _ _ _).trans (congrArg (fun z => aL z 637 w6) ((cm_aI_aL _ _ _ _ _).trans (congrArg (fun z => aL z 635 w5) ((cm_aI_aL _ _ _ _ _).trans (congrArg (fun z => aL z 630 w4) ((aI_comm _ (by decide) _ _).trans (congrArg (fun z => aI z 636 w3) (aI_aI _ 632 _ _))))))))
theorem sgM_worth_aI636 {σ : Sto} {w0 : Int32} {w1 : Nat → Int32} {w2 : Nat → Int32} {w3 : Nat → Int32} {w4 : Nat → Int64} {w5 : Nat → Int64} {w6 : Nat → Int64} {g : Nat → Int32} : aI (sgM_worth σ w0 w1 w2 w3 w4 w5 w6) 636 g = sgM_worth σ w0 w1 w2 g w4 w5 w6 := (cm_aI_aL _ _ _ _ _).trans (congrArg (fun z => aL z 637 w6) ((cm_aI_aL _ _ _ _ _).trans (congrArg (fun z => aL z 635 w5) ((cm_aI_aL _ _ _ _ _).trans (congrArg (fun z => aL z 630 w4) (aI_aI _ 636 _ _))))))
theorem sgM_worth_aL630 {σ : Sto} {w0 : Int32} {w1 : Nat → Int32} {w2 : Nat → Int32} {w3 : Nat → Int32} {w4 : Nat → Int64} {w5 : Nat → Int64} {w6 : Nat → Int64} {g : Nat → Int64} : aL (sgM_worth σ w0 w1 w2 w3 w4 w5 w6) 630 g = sgM_worth σ w0 w1 w2 w3 g w5 w6 := (aL_comm _ (by decide) _ _).trans (congrArg (fun z => aL z 637 w6) ((aL_comm _ (by decide) _ _).trans (congrArg (fun z => aL z 635 w5) (aL_aL _ 630 _ _))))
theorem sgM_worth_aL635 {σ : Sto} {w0 : Int32} {w1 : Nat → Int32} {w2 : Nat → Int32} {w3 : Nat → Int32} {w4 : Nat → Int64} {w5 : Nat → Int64} {w6 : Nat → Int64} {g : Nat → Int64} : aL (sgM_worth σ w0 w1 w2 w3 w4 w5 w6) 635 g = sgM_worth σ w0 w1 w2 w3 w4 g w6 := (aL_comm _ (by decide) _ _).trans (congrArg (fun z => aL z 637 w6) (aL_aL _ 635 _ _))
theorem sgM_worth_aL637 {σ : Sto} {w0 : Int32} {w1 : Nat → Int32} {w2 : Nat → Int32} {w3 : Nat → Int32} {w4 : Nat → Int64} {w5 : Nat → Int64} {w6 : Nat → Int64} {g : Nat → Int64} : aL (sgM_worth σ w0 w1 w2 w3 w4 w5 w6) 637 g = sgM_worth σ w0 w1 w2 w3 w4 w5 g := aL_aL _ 637 _ _
theorem sgM_worth_rzI502 {σ : Sto} {w0 : Int32} {w1 : Nat → Int32} {w2 : Nat → Int32} {w3 : Nat → Int32} {w4 : Nat → Int64} {w5 : Nat → Int64} {w6 : Nat → Int64} : (sgM_worth σ w0 w1 w2 w3 w4 w5 w6).1 502 = w0 := rfl
theorem sgM_worth_rzI522 {σ : Sto} {w0 : Int32} {w1 : Nat → Int32} {w2 : Nat → Int32} {w3 : Nat → Int32} {w4 : Nat → Int64} {w5 : Nat → Int64} {w6 : Nat → Int64} : (sgM_worth σ w0 w1 w2 w3 w4 w5 w6).1 522 = σ.1 522 := rfl
theorem sgM_worth_rzI523 {σ : Sto} {w0 : Int32} {w1 : Nat → Int32} {w2 : Nat → Int32} {w3 : Nat → Int32} {w4 : Nat → Int64} {w5 : Nat → Int64} {w6 : Nat → Int64} : (sgM_worth σ w0 w1 w2 w3 w4 w5 w6).1 523 = σ.1 523 := rfl
theorem sgM_worth_raI611 {σ : Sto} {w0 : Int32} {w1 : Nat → Int32} {w2 : Nat → Int32} {w3 : Nat → Int32} {w4 : Nat → Int64} {w5 : Nat → Int64} {w6 : Nat → Int64} : (sgM_worth σ w0 w1 w2 w3 w4 w5 w6).2.2.1 611 = σ.2.2.1 611 := rfl
theorem sgM_worth_raI615 {σ : Sto} {w0 : Int32} {w1 : Nat → Int32} {w2 : Nat → Int32} {w3 : Nat → Int32} {w4 : Nat → Int64} {w5 : Nat → Int64} {w6 : Nat → Int64} : (sgM_worth σ w0 w1 w2 w3 w4 w5 w6).2.2.1 615 = σ.2.2.1 615 := rfl
theorem sgM_worth_raI618 {σ : Sto} {w0 : Int32} {w1 : Nat → Int32} {w2 : Nat → Int32} {w3 : Nat → Int32} {w4 : Nat → Int64} {w5 : Nat → Int64} {w6 : Nat → Int64} : (sgM_worth σ w0 w1 w2 w3 w4 w5 w6).2.2.1 618 = σ.2.2.1 618 := rfl
theorem sgM_worth_raI620 {σ : Sto} {w0 : Int32} {w1 : Nat → Int32} {w2 : Nat → Int32} {w3 : Nat → Int32} {w4 : Nat → Int64} {w5 : Nat → Int64} {w6 : Nat → Int64} : (sgM_worth σ w0 w1 w2 w3 w4 w5 w6).2.2.1 620 = σ.2.2.1 620 := rfl
theorem sgM_worth_raI621 {σ : Sto} {w0 : Int32} {w1 : Nat → Int32} {w2 : Nat → Int32} {w3 : Nat → Int32} {w4 : Nat → Int64} {w5 : Nat → Int64} {w6 : Nat → Int64} : (sgM_worth σ w0 w1 w2 w3 w4 w5 w6).2.2.1 621 = σ.2.2.1 621 := rfl
theorem sgM_worth_raI624 {σ : Sto} {w0 : Int32} {w1 : Nat → Int32} {w2 : Nat → Int32} {w3 : Nat → Int32} {w4 : Nat → Int64} {w5 : Nat → Int64} {w6 : Nat → Int64} : (sgM_worth σ w0 w1 w2 w3 w4 w5 w6).2.2.1 624 = σ.2.2.1 624 := rfl
theorem sgM_worth_raI625 {σ : Sto} {w0 : Int32} {w1 : Nat → Int32} {w2 : Nat → Int32} {w3 : Nat → Int32} {w4 : Nat → Int64} {w5 : Nat → Int64} {w6 : Nat → Int64} : (sgM_worth σ w0 w1 w2 w3 w4 w5 w6).2.2.1 625 = σ.2.2.1 625 := rfl
theorem sgM_worth_raI631 {σ : Sto} {w0 : Int32} {w1 : Nat → Int32} {w2 : Nat → Int32} {w3 : Nat → Int32} {w4 : Nat → Int64} {w5 : Nat → Int64} {w6 : Nat → Int64} : (sgM_worth σ w0 w1 w2 w3 w4 w5 w6).2.2.1 631 = w1 := rfl
theorem sgM_worth_raI632 {σ : Sto} {w0 : Int32} {w1 : Nat → Int32} {w2 : Nat → Int32} {w3 : Nat → Int32} {w4 : Nat → Int64} {w5 : Nat → Int64} {w6 : Nat → Int64} : (sgM_worth σ w0 w1 w2 w3 w4 w5 w6).2.2.1 632 = w2 := rfl
theorem sgM_worth_raI636 {σ : Sto} {w0 : Int32} {w1 : Nat → Int32} {w2 : Nat → Int32} {w3 : Nat → Int32} {w4 : Nat → Int64} {w5 : Nat → Int64} {w6 : Nat → Int64} : (sgM_worth σ w0 w1 w2 w3 w4 w5 w6).2.2.1 636 = w3 := rfl
theorem sgM_worth_raL628 {σ : Sto} {w0 : Int32} {w1 : Nat → Int32} {w2 : Nat → Int32} {w3 : Nat → Int32} {w4 : Nat → Int64} {w5 : Nat → Int64} {w6 : Nat → Int64} : (sgM_worth σ w0 w1 w2 w3 w4 w5 w6).2.2.2.1 628 = σ.2.2.2.1 628 := rfl
theorem sgM_worth_raL630 {σ : Sto} {w0 : Int32} {w1 : Nat → Int32} {w2 : Nat → Int32} {w3 : Nat → Int32} {w4 : Nat → Int64} {w5 : Nat → Int64} {w6 : Nat → Int64} : (sgM_worth σ w0 w1 w2 w3 w4 w5 w6).2.2.2.1 630 = w4 := rfl
theorem sgM_worth_raL634 {σ : Sto} {w0 : Int32} {w1 : Nat → Int32} {w2 : Nat → Int32} {w3 : Nat → Int32} {w4 : Nat → Int64} {w5 : Nat → Int64} {w6 : Nat → Int64} : (sgM_worth σ w0 w1 w2 w3 w4 w5 w6).2.2.2.1 634 = σ.2.2.2.1 634 := rfl
theorem sgM_worth_raL635 {σ : Sto} {w0 : Int32} {w1 : Nat → Int32} {w2 : Nat → Int32} {w3 : Nat → Int32} {w4 : Nat → Int64} {w5 : Nat → Int64} {w6 : Nat → Int64} : (sgM_worth σ w0 w1 w2 w3 w4 w5 w6).2.2.2.1 635 = w5 := rfl
theorem sgM_worth_raL637 {σ : Sto} {w0 : Int32} {w1 : Nat → Int32} {w2 : Nat → Int32} {w3 : Nat → Int32} {w4 : Nat → Int64} {w5 : Nat → Int64} {w6 : Nat → Int64} : (sgM_worth σ w0 w1 w2 w3 w4 w5 w6).2.2.2.1 637 = w6 := rfl
abbrev rmM_worth : Room := { frames := 8, cells := 0, slots := 0, locals := 203 }
set_option maxHeartbeats 4000000 in
theorem wkM_worth {x1 : Int32} {r_ : Int64} {w_zI502 : Int32} {w_aI631 : Nat → Int32} {w_aI632 : Nat → Int32} {w_aI636 : Nat → Int32} {w_aL630 : Nat → Int64} {w_aL635 : Nat → Int64} {w_aL637 : Nat → Int64} (E : EN p s m args meth c0 RX16 cX16_worth 6 (Option.some Jvm.ClassFile.FieldType.long)) (hK : KK D clsA G s) (hA : ∀ q, PA dscM ad s.heap.size q → A q) (hf : mo_worth (σ.1 502) (σ.1 522) (σ.1 523) (σ.2.2.1 611) (σ.2.2.1 615) (σ.2.2.1 618) (σ.2.2.1 620) (σ.2.2.1 621) (σ.2.2.1 624) (σ.2.2.1 625) (σ.2.2.1 631) (σ.2.2.1 632) (σ.2.2.1 636) (σ.2.2.2.1 628) (σ.2.2.2.1 630) (σ.2.2.2.1 634) (σ.2.2.2.1 635) (σ.2.2.2.1 637) x1 = some (r_, w_zI502, w_aI631, w_aI632, w_aI636, w_aL630, w_aL635, w_aL637)) (hQ : Q = MQ below (va_Ql (fun x (_ : Unit) => x = r_) (fun _ t => PM D G ad (sgM_worth σ w_zI502 w_aI631 w_aI632 w_aI636 w_aL630 w_aL635 w_aL637) t.heap ∧ KK D clsA G t) A) args s 0 0 A) (hP : PM D G ad σ H) (hS : va_S A s.heap H locs) (hl : lv_has ls 6 [(0, .ref (ad 500)), (1, .int x1)]) : W p l e rmM_worth s m args below meth c0 H locs 0 0 Q (F0 m 0 ls []) := by
  obtain ⟨⟨hx, hb, hml, hown, hts⟩, hr, hlk⟩ := id E
  have hP := hP.to (sgM_worth_self σ).symm
  unfold mo_worth at hf
  refine lv_aload_n hx hb dX16_worth_0 rfl (lv_at hl 0 rfl) ?_
  refine lv_iconst hx hb dX16_worth_1 ic_0 ?_
  refine uM_2 E hK hP hS (hA _ (PA_c dM_500)) sgM_worth_zI502 dX16_worth_2 (fun H locs hP hS => ?_)
  refine lv_aload_n hx hb dX16_worth_5 rfl (lv_at hl 0 rfl) ?_
  refine lv_iload_n hx hb dX16_worth_6 rfl (lv_at hl 1 rfl) ?_
  obtain ⟨v1, u2, hf⟩ := bdP hf
  refine cM_isDoubtful E hK hP hS hA sgM_worth_raI611 u2 ⟨Nat.le_of_ble_eq_true rfl, Nat.le_of_ble_eq_true rfl⟩ ⟨Nat.zero_le _, Nat.zero_le _⟩ hl.1 (Nat.le_of_ble_eq_true rfl) dX16_worth_7 (fun H locs hP hS => ?_)
  have J20 : mo_worth_J20 (σ.2.2.1 631) (σ.2.2.1 632) (σ.2.2.1 636) (σ.2.2.2.1 630) (σ.2.2.2.1 635) (σ.2.2.2.1 637) = some (r_, w_zI502, w_aI631, w_aI632, w_aI636, w_aL630, w_aL635, w_aL637) → ∀ (H : Heap) (locs : List Loc), PM D G ad (sgM_worth σ 0 (σ.2.2.1 631) (σ.2.2.1 632) (σ.2.2.1 636) (σ.2.2.2.1 630) (σ.2.2.2.1 635) (σ.2.2.2.1 637)) H → va_S A s.heap H locs → ∀ (ls : Array Slot), lv_has ls 6 [] → W p l e rmM_worth s m args below meth c0 H locs 0 0 Q (F0 m 20 ls []) := by
    intro  hf H locs hP hS ls hl
    unfold mo_worth_J20 at hf
    refine lv_ldc2 hx hb hown (hts _ q1970) dX16_worth_20 ?_
    cases hf
    rw [hQ]; exact p_lret hx hb hr hlk hK hP hS dX16_worth_23
  refine lv_if_eq (tgt := 20) hx hb dX16_worth_10 (by decide) (fun c3 => ?_) (fun c3 => ?_)
  · have hf := ifT c3 hf
    exact J20  hf H locs hP hS ls (lv_sub hl [] rfl)
  · have hf := ifF c3 hf
    refine lv_aload_n hx hb dX16_worth_13 rfl (lv_at hl 0 rfl) ?_
    obtain ⟨v4, u5, hf⟩ := bdP hf
    refine cM_hasEnds E hK hP hS hA sgM_worth_raI611 u5 ⟨Nat.le_of_ble_eq_true rfl, Nat.le_of_ble_eq_true rfl⟩ ⟨Nat.zero_le _, Nat.zero_le _⟩ hl.1 (Nat.le_of_ble_eq_true rfl) dX16_worth_14 (fun H locs hP hS => ?_)
    refine lv_if_ne (tgt := 24) hx hb dX16_worth_17 (by decide) (fun c6 => ?_) (fun c6 => ?_)
    · have hf := ifF c6 hf
      refine lv_aload_n hx hb dX16_worth_24 rfl (lv_at hl 0 rfl) ?_
      refine lv_iconst hx hb dX16_worth_25 ic_0 ?_
      obtain ⟨⟨v7, a8, a9, a10, a11, a12, a13⟩, u14, hf⟩ := bdP hf
      dsimp only at hf
      refine cM_knowingSome E hK hP hS hA sgM_worth_rzI522 sgM_worth_rzI523 sgM_worth_raI611 sgM_worth_raI615 sgM_worth_raI618 sgM_worth_raI620 sgM_worth_raI621 sgM_worth_raI624 sgM_worth_raI625 sgM_worth_raI631 sgM_worth_raI632 sgM_worth_raI636 sgM_worth_raL628 sgM_worth_raL630 sgM_worth_raL634 sgM_worth_raL635 sgM_worth_raL637 u14 ⟨Nat.le_of_ble_eq_true rfl, Nat.le_of_ble_eq_true rfl⟩ ⟨Nat.zero_le _, Nat.zero_le _⟩ hl.1 (Nat.le_of_ble_eq_true rfl) dX16_worth_26 (fun H locs hP hS => ?_)
      rw [sgM_worth_aI631, sgM_worth_aI632, sgM_worth_aI636, sgM_worth_aL630, sgM_worth_aL635, sgM_worth_aL637] at hP
      refine lv_lstore_n (lv' := [(2, .long v7), (0, .ref (ad 500)), (1, .int x1)]) hx hb dX16_worth_29 rfl hl (by decide) rfl (fun ls hl => ?_)
      refine lv_aload_n hx hb dX16_worth_30 rfl (lv_at hl 1 rfl) ?_
      refine lv_iconst hx hb dX16_worth_31 ic_1 ?_
      refine lv_iload_n hx hb dX16_worth_32 rfl (lv_at hl 2 rfl) ?_
      refine lv_ishl hx hb dX16_worth_33 ?_
      obtain ⟨⟨v15, a16, a17, a18, a19, a20, a21⟩, u22, hf⟩ := bdP hf
      dsimp only at hf
      refine cM_knowingSome E hK hP hS hA sgM_worth_rzI522 sgM_worth_rzI523 sgM_worth_raI611 sgM_worth_raI615 sgM_worth_raI618 sgM_worth_raI620 sgM_worth_raI621 sgM_worth_raI624 sgM_worth_raI625 sgM_worth_raI631 sgM_worth_raI632 sgM_worth_raI636 sgM_worth_raL628 sgM_worth_raL630 sgM_worth_raL634 sgM_worth_raL635 sgM_worth_raL637 u22 ⟨Nat.le_of_ble_eq_true rfl, Nat.le_of_ble_eq_true rfl⟩ ⟨Nat.zero_le _, Nat.zero_le _⟩ hl.1 (Nat.le_of_ble_eq_true rfl) dX16_worth_34 (fun H locs hP hS => ?_)
      rw [sgM_worth_aI631, sgM_worth_aI632, sgM_worth_aI636, sgM_worth_aL630, sgM_worth_aL635, sgM_worth_aL637] at hP
      refine lv_lstore (lv' := [(4, .long v15), (2, .long v7), (0, .ref (ad 500)), (1, .int x1)]) hx hb dX16_worth_37 hl (by decide) rfl (fun ls hl => ?_)
      refine lv_lload_n hx hb dX16_worth_39 rfl (lv_at hl 1 rfl) ?_
      refine lv_ldc2 hx hb hown (hts _ q2050) dX16_worth_40 ?_
      refine W.lcmp hx hb dX16_worth_43 ?_
      have J56 : mo_worth_J56 a16 a17 a18 a19 a20 a21 = some (r_, w_zI502, w_aI631, w_aI632, w_aI636, w_aL630, w_aL635, w_aL637) → ∀ (H : Heap) (locs : List Loc), PM D G ad (sgM_worth σ 0 a16 a17 a18 a19 a20 a21) H → va_S A s.heap H locs → ∀ (ls : Array Slot), lv_has ls 6 [] → W p l e rmM_worth s m args below meth c0 H locs 0 0 Q (F0 m 56 ls []) := by
        intro  hf H locs hP hS ls hl
        unfold mo_worth_J56 at hf
        refine lv_ldc2 hx hb hown (hts _ q2136) dX16_worth_56 ?_
        refine lv_goto (tgt := 66) hx hb dX16_worth_59 (by decide) ?_
        cases hf
        rw [hQ]; exact p_lret hx hb hr hlk hK hP hS dX16_worth_66
      refine lv_if_ge (tgt := 56) hx hb dX16_worth_44 (by decide) (fun c23 => ?_) (fun c23 => ?_)
      · have hf := ifT ((lgc_ge _ _).mp c23) hf
        exact J56  hf H locs hP hS ls (lv_sub hl [] rfl)
      · have hf := ifF (mt (lgc_ge _ _).mpr c23) hf
        refine lv_lload hx hb dX16_worth_47 (lv_at hl 0 rfl) ?_
        refine lv_ldc2 hx hb hown (hts _ q2050) dX16_worth_49 ?_
        refine W.lcmp hx hb dX16_worth_52 ?_
        refine lv_if_lt (tgt := 62) hx hb dX16_worth_53 (by decide) (fun c24 => ?_) (fun c24 => ?_)
        · have hf := ifT ((lgc_lt _ _).mp c24) hf
          refine lv_lload_n hx hb dX16_worth_62 rfl (lv_at hl 1 rfl) ?_
          refine lv_lload hx hb dX16_worth_63 (lv_at hl 0 rfl) ?_
          refine lv_lsub hx hb dX16_worth_65 ?_
          cases hf
          rw [hQ]; exact p_lret hx hb hr hlk hK hP hS dX16_worth_66
        · have hf := ifF (mt (lgc_lt _ _).mpr c24) hf
          exact J56  hf H locs hP hS ls (lv_sub hl [] rfl)
    · have hf := ifT c6 hf
      exact J20  hf H locs hP hS ls (lv_sub hl [] rfl)
theorem kM_worth (l : Launch) (D : va_G) (G : Nat → ClassId) (ad : Nat → Nat) (σ : Sto) {x1 : Int32} {r_ : Int64} {w_zI502 : Int32} {w_aI631 : Nat → Int32} {w_aI632 : Nat → Int32} {w_aI636 : Nat → Int32} {w_aL630 : Nat → Int64} {w_aL635 : Nat → Int64} {w_aL637 : Nat → Int64} (hf : mo_worth (σ.1 502) (σ.1 522) (σ.1 523) (σ.2.2.1 611) (σ.2.2.1 615) (σ.2.2.1 618) (σ.2.2.1 620) (σ.2.2.1 621) (σ.2.2.1 624) (σ.2.2.1 625) (σ.2.2.1 631) (σ.2.2.1 632) (σ.2.2.1 636) (σ.2.2.2.1 628) (σ.2.2.2.1 630) (σ.2.2.2.1 634) (σ.2.2.2.1 635) (σ.2.2.2.1 637) x1 = some (r_, w_zI502, w_aI631, w_aI632, w_aI636, w_aL630, w_aL635, w_aL637)) : CtL l D clsA G dscM ad yX16_worth (ws_ yX16_worth cX16_worth 6 (Option.some Jvm.ClassFile.FieldType.long)) rmM_worth [.ref (ad 500), .int x1] σ r_ (sgM_worth σ w_zI502 w_aI631 w_aI632 w_aI636 w_aL630 w_aL635 w_aL637) :=
  p_ctL (by decide +kernel) (Nat.le_of_ble_eq_true rfl) (fun p e s m below meth c0 ls A E hP hK hA hS hl => wkM_worth E hK hA hf rfl hP hS hl)
/-! scout(II)J -/
def sgM_scout (σ : Sto) (w0 : Int32) (w1 : Nat → Int32) (w2 : Nat → Int32) (w3 : Nat → Int32) (w4 : Nat → Int64) (w5 : Nat → Int64) (w6 : Nat → Int64) : Sto := aL (aL (aL (aI (aI (aI (zI σ 502 w0) 631 w1) 632 w2) 636 w3) 630 w4) 635 w5) 637 w6
theorem sgM_scout_self (σ : Sto) : sgM_scout σ (σ.1 502) (σ.2.2.1 631) (σ.2.2.1 632) (σ.2.2.1 636) (σ.2.2.2.1 630) (σ.2.2.2.1 635) (σ.2.2.2.1 637) = σ := by
  unfold sgM_scout
  simp only [zI_self, zL_self, aI_self, aL_self]
theorem sgM_scout_zI502 {σ : Sto} {w0 : Int32} {w1 : Nat → Int32} {w2 : Nat → Int32} {w3 : Nat → Int32} {w4 : Nat → Int64} {w5 : Nat → Int64} {w6 : Nat → Int64} {g : Int32} : zI (sgM_scout σ w0 w1 w2 w3 w4 w5 w6) 502 g = sgM_scout σ g w1 w2 w3 w4 w5 w6 := (cm_zI_aL _ _ _ _ _).trans (congrArg (fun z => aL z 637 w6) ((cm_zI_aL _ _ _ _ _).trans (congrArg (fun z => aL z 635 w5) ((cm_zI_aL _ _ _ _ _).trans (congrArg (fun z => aL z 630 w4) ((cm_zI_aI _ _ _ _ _).trans (congrArg (fun z => aI z 636 w3) ((cm_zI_aI _ _ _ _ _).trans (congrArg (fun z => aI z 632 w2) ((cm_zI_aI _ _ _ _ _).trans (congrArg (fun z => aI z 631 w1) (zI_zI _ 502 _ _))))))))))))
theorem sgM_scout_aI631 {σ : Sto} {w0 : Int32} {w1 : Nat → Int32} {w2 : Nat → Int32} {w3 : Nat → Int32} {w4 : Nat → Int64} {w5 : Nat → Int64} {w6 : Nat → Int64} {g : Nat → Int32} : aI (sgM_scout σ w0 w1 w2 w3 w4 w5 w6) 631 g = sgM_scout σ w0 g w2 w3 w4 w5 w6 := (cm_aI_aL _ _ _ _ _).trans (congrArg (fun z => aL z 637 w6) ((cm_aI_aL _ _ _ _ _).trans (congrArg (fun z => aL z 635 w5) ((cm_aI_aL _ _ _ _ _).trans (congrArg (fun z => aL z 630 w4) ((aI_comm _ (by decide) _ _).trans (congrArg (fun z => aI z 636 w3) ((aI_comm _ (by decide) _ _).trans (congrArg (fun z => aI z 632 w2) (aI_aI _ 631 _ _))))))))))
theorem sgM_scout_aI632 {σ : Sto} {w0 : Int32} {w1 : Nat → Int32} {w2 : Nat → Int32} {w3 : Nat → Int32} {w4 : Nat → Int64} {w5 : Nat → Int64} {w6 : Nat → Int64} {g : Nat → Int32} : aI (sgM_scout σ w0 w1 w2 w3 w4 w5 w6) 632 g = sgM_scout σ w0 w1 g w3 w4 w5 w6 := (cm_aI_aL _ _ _ _ _).trans (congrArg (fun z => aL z 637 w6) ((cm_aI_aL _ _ _ _ _).trans (congrArg (fun z => aL z 635 w5) ((cm_aI_aL _ _ _ _ _).trans (congrArg (fun z => aL z 630 w4) ((aI_comm _ (by decide) _ _).trans (congrArg (fun z => aI z 636 w3) (aI_aI _ 632 _ _))))))))
theorem sgM_scout_aI636 {σ : Sto} {w0 : Int32} {w1 : Nat → Int32} {w2 : Nat → Int32} {w3 : Nat → Int32} {w4 : Nat → Int64} {w5 : Nat → Int64} {w6 : Nat → Int64} {g : Nat → Int32} : aI (sgM_scout σ w0 w1 w2 w3 w4 w5 w6) 636 g = sgM_scout σ w0 w1 w2 g w4 w5 w6 := (cm_aI_aL _ _ _ _ _).trans (congrArg (fun z => aL z 637 w6) ((cm_aI_aL _ _ _ _ _).trans (congrArg (fun z => aL z 635 w5) ((cm_aI_aL _ _ _ _ _).trans (congrArg (fun z => aL z 630 w4) (aI_aI _ 636 _ _))))))
theorem sgM_scout_aL630 {σ : Sto} {w0 : Int32} {w1 : Nat → Int32} {w2 : Nat → Int32} {w3 : Nat → Int32} {w4 : Nat → Int64} {w5 : Nat → Int64} {w6 : Nat → Int64} {g : Nat → Int64} : aL (sgM_scout σ w0 w1 w2 w3 w4 w5 w6) 630 g = sgM_scout σ w0 w1 w2 w3 g w5 w6 := (aL_comm _ (by decide) _ _).trans (congrArg (fun z => aL z 637 w6) ((aL_comm _ (by decide) _ _).trans (congrArg (fun z => aL z 635 w5) (aL_aL _ 630 _ _))))
theorem sgM_scout_aL635 {σ : Sto} {w0 : Int32} {w1 : Nat → Int32} {w2 : Nat → Int32} {w3 : Nat → Int32} {w4 : Nat → Int64} {w5 : Nat → Int64} {w6 : Nat → Int64} {g : Nat → Int64} : aL (sgM_scout σ w0 w1 w2 w3 w4 w5 w6) 635 g = sgM_scout σ w0 w1 w2 w3 w4 g w6 := (aL_comm _ (by decide) _ _).trans (congrArg (fun z => aL z 637 w6) (aL_aL _ 635 _ _))
theorem sgM_scout_aL637 {σ : Sto} {w0 : Int32} {w1 : Nat → Int32} {w2 : Nat → Int32} {w3 : Nat → Int32} {w4 : Nat → Int64} {w5 : Nat → Int64} {w6 : Nat → Int64} {g : Nat → Int64} : aL (sgM_scout σ w0 w1 w2 w3 w4 w5 w6) 637 g = sgM_scout σ w0 w1 w2 w3 w4 w5 g := aL_aL _ 637 _ _
theorem sgM_scout_rzI502 {σ : Sto} {w0 : Int32} {w1 : Nat → Int32} {w2 : Nat → Int32} {w3 : Nat → Int32} {w4 : Nat → Int64} {w5 : Nat → Int64} {w6 : Nat → Int64} : (sgM_scout σ w0 w1 w2 w3 w4 w5 w6).1 502 = w0 := rfl
theorem sgM_scout_rzI522 {σ : Sto} {w0 : Int32} {w1 : Nat → Int32} {w2 : Nat → Int32} {w3 : Nat → Int32} {w4 : Nat → Int64} {w5 : Nat → Int64} {w6 : Nat → Int64} : (sgM_scout σ w0 w1 w2 w3 w4 w5 w6).1 522 = σ.1 522 := rfl
theorem sgM_scout_rzI523 {σ : Sto} {w0 : Int32} {w1 : Nat → Int32} {w2 : Nat → Int32} {w3 : Nat → Int32} {w4 : Nat → Int64} {w5 : Nat → Int64} {w6 : Nat → Int64} : (sgM_scout σ w0 w1 w2 w3 w4 w5 w6).1 523 = σ.1 523 := rfl
theorem sgM_scout_raI611 {σ : Sto} {w0 : Int32} {w1 : Nat → Int32} {w2 : Nat → Int32} {w3 : Nat → Int32} {w4 : Nat → Int64} {w5 : Nat → Int64} {w6 : Nat → Int64} : (sgM_scout σ w0 w1 w2 w3 w4 w5 w6).2.2.1 611 = σ.2.2.1 611 := rfl
theorem sgM_scout_raI615 {σ : Sto} {w0 : Int32} {w1 : Nat → Int32} {w2 : Nat → Int32} {w3 : Nat → Int32} {w4 : Nat → Int64} {w5 : Nat → Int64} {w6 : Nat → Int64} : (sgM_scout σ w0 w1 w2 w3 w4 w5 w6).2.2.1 615 = σ.2.2.1 615 := rfl
theorem sgM_scout_raI618 {σ : Sto} {w0 : Int32} {w1 : Nat → Int32} {w2 : Nat → Int32} {w3 : Nat → Int32} {w4 : Nat → Int64} {w5 : Nat → Int64} {w6 : Nat → Int64} : (sgM_scout σ w0 w1 w2 w3 w4 w5 w6).2.2.1 618 = σ.2.2.1 618 := rfl
theorem sgM_scout_raI620 {σ : Sto} {w0 : Int32} {w1 : Nat → Int32} {w2 : Nat → Int32} {w3 : Nat → Int32} {w4 : Nat → Int64} {w5 : Nat → Int64} {w6 : Nat → Int64} : (sgM_scout σ w0 w1 w2 w3 w4 w5 w6).2.2.1 620 = σ.2.2.1 620 := rfl
theorem sgM_scout_raI621 {σ : Sto} {w0 : Int32} {w1 : Nat → Int32} {w2 : Nat → Int32} {w3 : Nat → Int32} {w4 : Nat → Int64} {w5 : Nat → Int64} {w6 : Nat → Int64} : (sgM_scout σ w0 w1 w2 w3 w4 w5 w6).2.2.1 621 = σ.2.2.1 621 := rfl
theorem sgM_scout_raI624 {σ : Sto} {w0 : Int32} {w1 : Nat → Int32} {w2 : Nat → Int32} {w3 : Nat → Int32} {w4 : Nat → Int64} {w5 : Nat → Int64} {w6 : Nat → Int64} : (sgM_scout σ w0 w1 w2 w3 w4 w5 w6).2.2.1 624 = σ.2.2.1 624 := rfl
theorem sgM_scout_raI625 {σ : Sto} {w0 : Int32} {w1 : Nat → Int32} {w2 : Nat → Int32} {w3 : Nat → Int32} {w4 : Nat → Int64} {w5 : Nat → Int64} {w6 : Nat → Int64} : (sgM_scout σ w0 w1 w2 w3 w4 w5 w6).2.2.1 625 = σ.2.2.1 625 := rfl
theorem sgM_scout_raI631 {σ : Sto} {w0 : Int32} {w1 : Nat → Int32} {w2 : Nat → Int32} {w3 : Nat → Int32} {w4 : Nat → Int64} {w5 : Nat → Int64} {w6 : Nat → Int64} : (sgM_scout σ w0 w1 w2 w3 w4 w5 w6).2.2.1 631 = w1 := rfl
theorem sgM_scout_raI632 {σ : Sto} {w0 : Int32} {w1 : Nat → Int32} {w2 : Nat → Int32} {w3 : Nat → Int32} {w4 : Nat → Int64} {w5 : Nat → Int64} {w6 : Nat → Int64} : (sgM_scout σ w0 w1 w2 w3 w4 w5 w6).2.2.1 632 = w2 := rfl
theorem sgM_scout_raI636 {σ : Sto} {w0 : Int32} {w1 : Nat → Int32} {w2 : Nat → Int32} {w3 : Nat → Int32} {w4 : Nat → Int64} {w5 : Nat → Int64} {w6 : Nat → Int64} : (sgM_scout σ w0 w1 w2 w3 w4 w5 w6).2.2.1 636 = w3 := rfl
theorem sgM_scout_raL628 {σ : Sto} {w0 : Int32} {w1 : Nat → Int32} {w2 : Nat → Int32} {w3 : Nat → Int32} {w4 : Nat → Int64} {w5 : Nat → Int64} {w6 : Nat → Int64} : (sgM_scout σ w0 w1 w2 w3 w4 w5 w6).2.2.2.1 628 = σ.2.2.2.1 628 := rfl
theorem sgM_scout_raL630 {σ : Sto} {w0 : Int32} {w1 : Nat → Int32} {w2 : Nat → Int32} {w3 : Nat → Int32} {w4 : Nat → Int64} {w5 : Nat → Int64} {w6 : Nat → Int64} : (sgM_scout σ w0 w1 w2 w3 w4 w5 w6).2.2.2.1 630 = w4 := rfl
theorem sgM_scout_raL634 {σ : Sto} {w0 : Int32} {w1 : Nat → Int32} {w2 : Nat → Int32} {w3 : Nat → Int32} {w4 : Nat → Int64} {w5 : Nat → Int64} {w6 : Nat → Int64} : (sgM_scout σ w0 w1 w2 w3 w4 w5 w6).2.2.2.1 634 = σ.2.2.2.1 634 := rfl
theorem sgM_scout_raL635 {σ : Sto} {w0 : Int32} {w1 : Nat → Int32} {w2 : Nat → Int32} {w3 : Nat → Int32} {w4 : Nat → Int64} {w5 : Nat → Int64} {w6 : Nat → Int64} : (sgM_scout σ w0 w1 w2 w3 w4 w5 w6).2.2.2.1 635 = w5 := rfl
theorem sgM_scout_raL637 {σ : Sto} {w0 : Int32} {w1 : Nat → Int32} {w2 : Nat → Int32} {w3 : Nat → Int32} {w4 : Nat → Int64} {w5 : Nat → Int64} {w6 : Nat → Int64} : (sgM_scout σ w0 w1 w2 w3 w4 w5 w6).2.2.2.1 637 = w6 := rfl
abbrev rmM_scout : Room := { frames := 8, cells := 0, slots := 0, locals := 203 }
set_option maxHeartbeats 4000000 in
theorem wkM_scout {x1 : Int32} {x2 : Int32} {r_ : Int64} {w_zI502 : Int32} {w_aI631 : Nat → Int32} {w_aI632 : Nat → Int32} {w_aI636 : Nat → Int32} {w_aL630 : Nat → Int64} {w_aL635 : Nat → Int64} {w_aL637 : Nat → Int64} (E : EN p s m args meth c0 RX16 cX16_scout 12 (Option.some Jvm.ClassFile.FieldType.long)) (hK : KK D clsA G s) (hA : ∀ q, PA dscM ad s.heap.size q → A q) (hf : mo_scout (σ.1 502) (σ.1 522) (σ.1 523) (σ.2.2.1 611) (σ.2.2.1 615) (σ.2.2.1 618) (σ.2.2.1 620) (σ.2.2.1 621) (σ.2.2.1 624) (σ.2.2.1 625) (σ.2.2.1 631) (σ.2.2.1 632) (σ.2.2.1 636) (σ.2.2.2.1 628) (σ.2.2.2.1 630) (σ.2.2.2.1 634) (σ.2.2.2.1 635) (σ.2.2.2.1 637) x1 x2 = some (r_, w_zI502, w_aI631, w_aI632, w_aI636, w_aL630, w_aL635, w_aL637)) (hQ : Q = MQ below (va_Ql (fun x (_ : Unit) => x = r_) (fun _ t => PM D G ad (sgM_scout σ w_zI502 w_aI631 w_aI632 w_aI636 w_aL630 w_aL635 w_aL637) t.heap ∧ KK D clsA G t) A) args s 0 0 A) (hP : PM D G ad σ H) (hS : va_S A s.heap H locs) (hl : lv_has ls 12 [(0, .ref (ad 500)), (1, .int x1), (2, .int x2)]) : W p l e rmM_scout s m args below meth c0 H locs 0 0 Q (F0 m 0 ls []) := by
  obtain ⟨⟨hx, hb, hml, hown, hts⟩, hr, hlk⟩ := id E
  have hP := hP.to (sgM_scout_self σ).symm
  unfold mo_scout at hf
  refine lv_aload_n hx hb dX16_scout_0 rfl (lv_at hl 0 rfl) ?_
  refine lv_iconst hx hb dX16_scout_1 ic_0 ?_
  refine uM_2 E hK hP hS (hA _ (PA_c dM_500)) sgM_scout_zI502 dX16_scout_2 (fun H locs hP hS => ?_)
  refine lv_iload_n hx hb dX16_scout_5 rfl (lv_at hl 1 rfl) ?_
  refine lv_iconst hx hb dX16_scout_6 ic_0 ?_
  refine lv_bipush hx hb dX16_scout_7 bp_99 ?_
  obtain ⟨v1, u2, hf⟩ := bdP hf
  refine cM_isIn E hK hP hS hA u2 ⟨Nat.le_of_ble_eq_true rfl, Nat.le_of_ble_eq_true rfl⟩ ⟨Nat.zero_le _, Nat.zero_le _⟩ hl.1 (Nat.le_of_ble_eq_true rfl) dX16_scout_9 (fun H locs hP hS => ?_)
  have J31 : mo_scout_J31 (σ.2.2.1 631) (σ.2.2.1 632) (σ.2.2.1 636) (σ.2.2.2.1 630) (σ.2.2.2.1 635) (σ.2.2.2.1 637) = some (r_, w_zI502, w_aI631, w_aI632, w_aI636, w_aL630, w_aL635, w_aL637) → ∀ (H : Heap) (locs : List Loc), PM D G ad (sgM_scout σ 0 (σ.2.2.1 631) (σ.2.2.1 632) (σ.2.2.1 636) (σ.2.2.2.1 630) (σ.2.2.2.1 635) (σ.2.2.2.1 637)) H → va_S A s.heap H locs → ∀ (ls : Array Slot), lv_has ls 12 [] → W p l e rmM_scout s m args below meth c0 H locs 0 0 Q (F0 m 31 ls []) := by
    intro  hf H locs hP hS ls hl
    unfold mo_scout_J31 at hf
    refine lv_ldc2 hx hb hown (hts _ q1970) dX16_scout_31 ?_
    cases hf
    rw [hQ]; exact p_lret hx hb hr hlk hK hP hS dX16_scout_34
  refine lv_if_eq (tgt := 31) hx hb dX16_scout_12 (by decide) (fun c3 => ?_) (fun c3 => ?_)
  · have hf := ifT c3 hf
    exact J31  hf H locs hP hS ls (lv_sub hl [] rfl)
  · have hf := ifF c3 hf
    refine lv_iload_n hx hb dX16_scout_15 rfl (lv_at hl 2 rfl) ?_
    refine lv_iconst hx hb dX16_scout_16 ic_0 ?_
    refine lv_iconst hx hb dX16_scout_17 ic_1 ?_
    obtain ⟨v4, u5, hf⟩ := bdP hf
    refine cM_isIn E hK hP hS hA u5 ⟨Nat.le_of_ble_eq_true rfl, Nat.le_of_ble_eq_true rfl⟩ ⟨Nat.zero_le _, Nat.zero_le _⟩ hl.1 (Nat.le_of_ble_eq_true rfl) dX16_scout_18 (fun H locs hP hS => ?_)
    refine lv_if_eq (tgt := 31) hx hb dX16_scout_21 (by decide) (fun c6 => ?_) (fun c6 => ?_)
    · have hf := ifT c6 hf
      exact J31  hf H locs hP hS ls (lv_sub hl [] rfl)
    · have hf := ifF c6 hf
      refine lv_aload_n hx hb dX16_scout_24 rfl (lv_at hl 0 rfl) ?_
      obtain ⟨v7, u8, hf⟩ := bdP hf
      refine cM_hasEnds E hK hP hS hA sgM_scout_raI611 u8 ⟨Nat.le_of_ble_eq_true rfl, Nat.le_of_ble_eq_true rfl⟩ ⟨Nat.zero_le _, Nat.zero_le _⟩ hl.1 (Nat.le_of_ble_eq_true rfl) dX16_scout_25 (fun H locs hP hS => ?_)
      refine lv_if_ne (tgt := 35) hx hb dX16_scout_28 (by decide) (fun c9 => ?_) (fun c9 => ?_)
      · have hf := ifF c9 hf
        refine lv_iconst hx hb dX16_scout_35 ic_m1 ?_
        refine lv_istore_n (lv' := [(3, .int (-1)), (0, .ref (ad 500)), (1, .int x1), (2, .int x2)]) hx hb dX16_scout_36 rfl hl (by decide) rfl (fun ls hl => ?_)
        refine lv_lconst hx hb dX16_scout_37 lc_0 ?_
        refine lv_lstore (lv' := [(4, .long 0), (3, .int (-1)), (0, .ref (ad 500)), (1, .int x1), (2, .int x2)]) hx hb dX16_scout_38 hl (by decide) rfl (fun ls hl => ?_)
        refine lv_iconst hx hb dX16_scout_40 ic_0 ?_
        refine lv_istore (lv' := [(6, .int 0), (4, .long 0), (3, .int (-1)), (0, .ref (ad 500)), (1, .int x1), (2, .int x2)]) hx hb dX16_scout_41 hl (by decide) rfl (fun ls hl => ?_)
        refine lv_iconst hx hb dX16_scout_43 ic_0 ?_
        refine lv_istore (lv' := [(7, .int 0), (6, .int 0), (4, .long 0), (3, .int (-1)), (0, .ref (ad 500)), (1, .int x1), (2, .int x2)]) hx hb dX16_scout_44 hl (by decide) rfl (fun ls hl => ?_)
        have LP46 : ∀ (st46 : Int32 × Int64 × Int32 × Int32 × (Nat → Int32) × (Nat → Int32) × (Nat → Int32) × (Nat → Int64) × (Nat → Int64) × (Nat → Int64)) (ex46 : (Int32 × Int64 × (Nat → Int32) × (Nat → Int32) × (Nat → Int32) × (Nat → Int64) × (Nat → Int64) × (Nat → Int64))), loop (mo_scout_L46 (σ.1 522) (σ.1 523) (σ.2.2.1 611) (σ.2.2.1 615) (σ.2.2.1 618) (σ.2.2.1 620) (σ.2.2.1 621) (σ.2.2.1 624) (σ.2.2.1 625) (σ.2.2.2.1 628) (σ.2.2.2.1 634) x1) st46 = some ex46 → ∀ (H : Heap) (locs : List Loc), PM D G ad (sgM_scout σ 0 (st46.2.2.2.2.1) (st46.2.2.2.2.2.1) (st46.2.2.2.2.2.2.1) (st46.2.2.2.2.2.2.2.1) (st46.2.2.2.2.2.2.2.2.1) (st46.2.2.2.2.2.2.2.2.2)) H → va_S A s.heap H locs → ∀ (ls : Array Slot), lv_has ls 12 [(0, .ref (ad 500)), (1, .int x1), (2, .int x2), (3, .int (st46.1)), (4, .long (st46.2.1)), (6, .int (st46.2.2.1)), (7, .int (st46.2.2.2.1))] → (∀ (y48 : Int32) (y49 : Int64) (a50 : Nat → Int32) (a51 : Nat → Int32) (a52 : Nat → Int32) (a53 : Nat → Int64) (a54 : Nat → Int64) (a55 : Nat → Int64), ex46 = (y48, y49, a50, a51, a52, a53, a54, a55) → ∀ (H : Heap) (locs : List Loc), PM D G ad (sgM_scout σ 0 a50 a51 a52 a53 a54 a55) H → va_S A s.heap H locs → ∀ (ls : Array Slot), lv_has ls 12 [(2, .int x2), (3, .int y48), (4, .long y49)] → W p l e rmM_scout s m args below meth c0 H locs 0 0 Q (F0 m 174 ls [])) → W p l e rmM_scout s m args below meth c0 H locs 0 0 Q (F0 m 46 ls []) := by
          refine loop_P (fun st46 ex46 o46 hf ih46 hx46 => ?_)
          obtain ⟨y10, y11, y12, y13, a14, a15, a16, a17, a18, a19⟩ := st46
          intro H locs (hP : PM D G ad (sgM_scout σ 0 a14 a15 a16 a17 a18 a19) H) hS ls (hl : lv_has ls 12 [(0, .ref (ad 500)), (1, .int x1), (2, .int x2), (3, .int y10), (4, .long y11), (6, .int y12), (7, .int y13)]) KE46_0
          dsimp only [mo_scout_L46] at hf
          refine lv_iload hx hb dX16_scout_46 (lv_at hl 6 rfl) ?_
          refine lv_aload_n hx hb dX16_scout_48 rfl (lv_at hl 0 rfl) ?_
          refine gM_22 (v := (σ.1 522)) E hK hP sgM_scout_rzI522 dX16_scout_49 ?_
          refine lv_icmp_ge (tgt := 174) hx hb dX16_scout_52 (by decide) (fun c20 => ?_) (fun c20 => ?_)
          · have hf := ifT c20 hf
            exact KE46_0 _ _ _ _ _ _ _ _ (hx46 _ (Option.some.inj hf).symm).symm H locs hP hS ls (lv_sub hl [2, 3, 4] rfl)
          · have hf := ifF c20 hf
            refine lv_aload_n hx hb dX16_scout_55 rfl (lv_at hl 0 rfl) ?_
            refine lv_iload hx hb dX16_scout_56 (lv_at hl 6 rfl) ?_
            obtain ⟨⟨v21, a22, a23, a24, a25, a26, a27⟩, u28, hf⟩ := bdP hf
            dsimp only at hf
            refine cM_knowingSome E hK hP hS hA sgM_scout_rzI522 sgM_scout_rzI523 sgM_scout_raI611 sgM_scout_raI615 sgM_scout_raI618 sgM_scout_raI620 sgM_scout_raI621 sgM_scout_raI624 sgM_scout_raI625 sgM_scout_raI631 sgM_scout_raI632 sgM_scout_raI636 sgM_scout_raL628 sgM_scout_raL630 sgM_scout_raL634 sgM_scout_raL635 sgM_scout_raL637 u28 ⟨Nat.le_of_ble_eq_true rfl, Nat.le_of_ble_eq_true rfl⟩ ⟨Nat.zero_le _, Nat.zero_le _⟩ hl.1 (Nat.le_of_ble_eq_true rfl) dX16_scout_58 (fun H locs hP hS => ?_)
            rw [sgM_scout_aI631, sgM_scout_aI632, sgM_scout_aI636, sgM_scout_aL630, sgM_scout_aL635, sgM_scout_aL637] at hP
            refine lv_lstore (lv' := [(8, .long v21), (0, .ref (ad 500)), (1, .int x1), (2, .int x2), (3, .int y10), (4, .long y11), (6, .int y12), (7, .int y13)]) hx hb dX16_scout_61 hl (by decide) rfl (fun ls hl => ?_)
            refine lv_lload hx hb dX16_scout_63 (lv_at hl 0 rfl) ?_
            refine lv_ldc2 hx hb hown (hts _ q2050) dX16_scout_65 ?_
            refine W.lcmp hx hb dX16_scout_68 ?_
            have J168 : ∀ (y29 : Int32) (y30 : Int64) (y31 : Int32), mo_scout_J168 y13 a22 a23 a24 a25 a26 a27 y29 y30 y31 = some o46 → ∀ (H : Heap) (locs : List Loc), PM D G ad (sgM_scout σ 0 a22 a23 a24 a25 a26 a27) H → va_S A s.heap H locs → ∀ (ls : Array Slot), lv_has ls 12 [(0, .ref (ad 500)), (1, .int x1), (2, .int x2), (3, .int y29), (4, .long y30), (6, .int y31), (7, .int y13)] → W p l e rmM_scout s m args below meth c0 H locs 0 0 Q (F0 m 168 ls []) := by
              intro y29 y30 y31 hf H locs hP hS ls hl
              unfold mo_scout_J168 at hf
              obtain ⟨v32, hv32, hf⟩ := bdP hf
              refine lv_iinc (v := v32) (lv' := [(7, .int v32), (0, .ref (ad 500)), (1, .int x1), (2, .int x2), (3, .int y29), (4, .long y30), (6, .int y31)]) hx hb dX16_scout_168 hl (k := 6) rfl (Option.some.inj hv32) (by decide) rfl (fun ls hl => ?_)
              refine lv_goto (tgt := 46) hx hb dX16_scout_171 (by decide) ?_
              exact ih46 _ (Option.some.inj hf).symm H locs hP hS ls (lv_sub hl [1, 2, 3, 4, 5, 6, 0] rfl) KE46_0
            refine lv_if_lt (tgt := 75) hx hb dX16_scout_69 (by decide) (fun c33 => ?_) (fun c33 => ?_)
            · have hf := ifT ((lgc_lt _ _).mp c33) hf
              refine lv_iconst hx hb dX16_scout_75 ic_0 ?_
              refine lv_istore (lv' := [(10, .int 0), (8, .long v21), (0, .ref (ad 500)), (1, .int x1), (2, .int x2), (3, .int y10), (4, .long y11), (6, .int y12), (7, .int y13)]) hx hb dX16_scout_76 hl (by decide) rfl (fun ls hl => ?_)
              refine lv_iconst hx hb dX16_scout_78 ic_0 ?_
              refine lv_istore (lv' := [(11, .int 0), (10, .int 0), (8, .long v21), (0, .ref (ad 500)), (1, .int x1), (2, .int x2), (3, .int y10), (4, .long y11), (6, .int y12), (7, .int y13)]) hx hb dX16_scout_79 hl (by decide) rfl (fun ls hl => ?_)
              have LP81 : ∀ (st81 : Int32 × Int32) (ex81 : (Int32)), loop (mo_scout_L81 (σ.2.2.1 611) y13) st81 = some ex81 → ∀ (H : Heap) (locs : List Loc), PM D G ad (sgM_scout σ 0 a22 a23 a24 a25 a26 a27) H → va_S A s.heap H locs → ∀ (ls : Array Slot), lv_has ls 12 [(0, .ref (ad 500)), (1, .int x1), (2, .int x2), (3, .int y10), (4, .long y11), (6, .int y12), (7, .int y13), (8, .long v21), (10, .int (st81.1)), (11, .int (st81.2))] → (∀ (y41 : Int32), ex81 = y41 → ∀ (H : Heap) (locs : List Loc), PM D G ad (sgM_scout σ 0 a22 a23 a24 a25 a26 a27) H → va_S A s.heap H locs → ∀ (ls : Array Slot), lv_has ls 12 [(0, .ref (ad 500)), (1, .int x1), (2, .int x2), (3, .int y10), (4, .long y11), (6, .int y12), (7, .int y13), (8, .long v21), (10, .int y41)] → W p l e rmM_scout s m args below meth c0 H locs 0 0 Q (F0 m 108 ls [])) → W p l e rmM_scout s m args below meth c0 H locs 0 0 Q (F0 m 81 ls []) := by
                refine loop_P (fun st81 ex81 o81 hf ih81 hx81 => ?_)
                obtain ⟨y34, y35⟩ := st81
                intro H locs (hP : PM D G ad (sgM_scout σ 0 a22 a23 a24 a25 a26 a27) H) hS ls (hl : lv_has ls 12 [(0, .ref (ad 500)), (1, .int x1), (2, .int x2), (3, .int y10), (4, .long y11), (6, .int y12), (7, .int y13), (8, .long v21), (10, .int y34), (11, .int y35)]) KE81_0
                dsimp only [mo_scout_L81] at hf
                refine lv_iload hx hb dX16_scout_81 (lv_at hl 9 rfl) ?_
                refine lv_aload_n hx hb dX16_scout_83 rfl (lv_at hl 0 rfl) ?_
                obtain ⟨v36, u37, hf⟩ := bdP hf
                refine cM_doubts E hK hP hS hA sgM_scout_raI611 u37 ⟨Nat.le_of_ble_eq_true rfl, Nat.le_of_ble_eq_true rfl⟩ ⟨Nat.zero_le _, Nat.zero_le _⟩ hl.1 (Nat.le_of_ble_eq_true rfl) dX16_scout_84 (fun H locs hP hS => ?_)
                refine lv_icmp_ge (tgt := 108) hx hb dX16_scout_87 (by decide) (fun c38 => ?_) (fun c38 => ?_)
                · have hf := ifT c38 hf
                  exact KE81_0 _ (hx81 _ (Option.some.inj hf).symm).symm H locs hP hS ls (lv_sub hl [0, 1, 2, 3, 4, 5, 6, 7, 8] rfl)
                · have hf := ifF c38 hf
                  refine lv_iload hx hb dX16_scout_90 (lv_at hl 8 rfl) ?_
                  refine lv_iload hx hb dX16_scout_92 (lv_at hl 6 rfl) ?_
                  refine lv_iload hx hb dX16_scout_94 (lv_at hl 9 rfl) ?_
                  refine lv_ishr hx hb dX16_scout_96 ?_
                  refine lv_iconst hx hb dX16_scout_97 ic_1 ?_
                  refine lv_iand hx hb dX16_scout_98 ?_
                  refine lv_iadd hx hb dX16_scout_99 ?_
                  obtain ⟨v39, hv39, hf⟩ := bdP hf
                  refine nm_i (Option.some.inj hv39) ?_
                  refine lv_istore (lv' := [(10, .int v39), (0, .ref (ad 500)), (1, .int x1), (2, .int x2), (3, .int y10), (4, .long y11), (6, .int y12), (7, .int y13), (8, .long v21), (11, .int y35)]) hx hb dX16_scout_100 hl (by decide) rfl (fun ls hl => ?_)
                  obtain ⟨v40, hv40, hf⟩ := bdP hf
                  refine lv_iinc (v := v40) (lv' := [(11, .int v40), (10, .int v39), (0, .ref (ad 500)), (1, .int x1), (2, .int x2), (3, .int y10), (4, .long y11), (6, .int y12), (7, .int y13), (8, .long v21)]) hx hb dX16_scout_102 hl (k := 9) rfl (Option.some.inj hv40) (by decide) rfl (fun ls hl => ?_)
                  refine lv_goto (tgt := 81) hx hb dX16_scout_105 (by decide) ?_
                  exact ih81 _ (Option.some.inj hf).symm H locs hP hS ls (lv_sub hl [2, 3, 4, 5, 6, 7, 8, 9, 1, 0] rfl) KE81_0
              obtain ⟨ex81, hlp81, hf⟩ := bdP hf
              refine LP81 (0, 0) ex81 hlp81 H locs hP hS ls (lv_sub hl [3, 4, 5, 6, 7, 8, 9, 2, 1, 0] rfl) ?_
              intro y41 hex81 H locs hP hS ls hl
              subst ex81
              refine lv_lload hx hb dX16_scout_108 (lv_at hl 7 rfl) ?_
              refine lv_iload hx hb dX16_scout_110 (lv_at hl 8 rfl) ?_
              refine lv_i2l hx hb dX16_scout_112 rfl ?_
              refine lv_iload_n hx hb dX16_scout_113 rfl (lv_at hl 1 rfl) ?_
              refine lv_i2l hx hb dX16_scout_114 rfl ?_
              refine lv_lmul hx hb dX16_scout_115 ?_
              refine lv_aload_n hx hb dX16_scout_116 rfl (lv_at hl 0 rfl) ?_
              refine gM_28 E hK hP dX16_scout_117 ?_
              refine lv_iconst hx hb dX16_scout_120 ic_0 ?_
              obtain ⟨v42, hv42, hf⟩ := bdP hf
              refine p_lald hx hb hK hP dM_628 sgM_scout_raL628 hv42 dX16_scout_121 ?_
              refine lv_lmul hx hb dX16_scout_122 ?_
              refine lv_ladd hx hb dX16_scout_123 ?_
              obtain ⟨v43, hv43, hf⟩ := bdP hf
              refine nm_l (Option.some.inj hv43) ?_
              refine lv_lstore (lv' := [(8, .long v43), (0, .ref (ad 500)), (1, .int x1), (2, .int x2), (3, .int y10), (4, .long y11), (6, .int y12), (7, .int y13), (10, .int y41)]) hx hb dX16_scout_124 hl (by decide) rfl (fun ls hl => ?_)
              refine lv_iload_n hx hb dX16_scout_126 rfl (lv_at hl 4 rfl) ?_
              refine lv_iconst hx hb dX16_scout_127 ic_m1 ?_
              have J157 : mo_scout_J157 y13 a22 a23 a24 a25 a26 a27 y41 v43 = some o46 → ∀ (H : Heap) (locs : List Loc), PM D G ad (sgM_scout σ 0 a22 a23 a24 a25 a26 a27) H → va_S A s.heap H locs → ∀ (ls : Array Slot), lv_has ls 12 [(0, .ref (ad 500)), (1, .int x1), (2, .int x2), (7, .int y13), (8, .long v43), (10, .int y41)] → W p l e rmM_scout s m args below meth c0 H locs 0 0 Q (F0 m 157 ls []) := by
                intro  hf H locs hP hS ls hl
                unfold mo_scout_J157 at hf
                refine lv_iload hx hb dX16_scout_157 (lv_at hl 3 rfl) ?_
                refine lv_istore_n (lv' := [(3, .int y13), (0, .ref (ad 500)), (1, .int x1), (2, .int x2), (7, .int y13), (8, .long v43), (10, .int y41)]) hx hb dX16_scout_159 rfl hl (by decide) rfl (fun ls hl => ?_)
                refine lv_lload hx hb dX16_scout_160 (lv_at hl 5 rfl) ?_
                refine lv_lstore (lv' := [(4, .long v43), (3, .int y13), (0, .ref (ad 500)), (1, .int x1), (2, .int x2), (7, .int y13), (8, .long v43), (10, .int y41)]) hx hb dX16_scout_162 hl (by decide) rfl (fun ls hl => ?_)
                refine lv_iload hx hb dX16_scout_164 (lv_at hl 7 rfl) ?_
                refine lv_istore (lv' := [(6, .int y41), (4, .long v43), (3, .int y13), (0, .ref (ad 500)), (1, .int x1), (2, .int x2), (7, .int y13), (8, .long v43), (10, .int y41)]) hx hb dX16_scout_166 hl (by decide) rfl (fun ls hl => ?_)
                exact J168 y13 v43 y41 hf H locs hP hS ls (lv_sub hl [3, 4, 5, 2, 1, 0, 6] rfl)
              refine lv_icmp_eq (tgt := 157) hx hb dX16_scout_128 (by decide) (fun c44 => ?_) (fun c44 => ?_)
              · have hf := ifT c44 hf
                exact J157  hf H locs hP hS ls (lv_sub hl [1, 2, 3, 7, 0, 8] rfl)
              · have hf := ifF c44 hf
                refine lv_lload hx hb dX16_scout_131 (lv_at hl 0 rfl) ?_
                refine lv_lload hx hb dX16_scout_133 (lv_at hl 5 rfl) ?_
                refine W.lcmp hx hb dX16_scout_135 ?_
                refine lv_if_gt (tgt := 168) hx hb dX16_scout_136 (by decide) (fun c45 => ?_) (fun c45 => ?_)
                · have hf := ifT ((lgc_gt _ _).mp c45) hf
                  exact J168 y10 y11 y12 hf H locs hP hS ls (lv_sub hl [1, 2, 3, 4, 5, 6, 7] rfl)
                · have hf := ifF (mt (lgc_gt _ _).mpr c45) hf
                  refine lv_lload hx hb dX16_scout_139 (lv_at hl 0 rfl) ?_
                  refine lv_lload hx hb dX16_scout_141 (lv_at hl 5 rfl) ?_
                  refine W.lcmp hx hb dX16_scout_143 ?_
                  refine lv_if_ne (tgt := 157) hx hb dX16_scout_144 (by decide) (fun c46 => ?_) (fun c46 => ?_)
                  · have hf := ifF (mt (lgc_eq _ _).mpr c46) hf
                    exact J157  hf H locs hP hS ls (lv_sub hl [1, 2, 3, 7, 0, 8] rfl)
                  · have hf := ifT ((lgc_eq _ _).mp c46) hf
                    refine lv_iload hx hb dX16_scout_147 (lv_at hl 8 rfl) ?_
                    refine lv_iload hx hb dX16_scout_149 (lv_at hl 6 rfl) ?_
                    refine lv_icmp_lt (tgt := 157) hx hb dX16_scout_151 (by decide) (fun c47 => ?_) (fun c47 => ?_)
                    · have hf := ifT c47 hf
                      exact J157  hf H locs hP hS ls (lv_sub hl [1, 2, 3, 7, 0, 8] rfl)
                    · have hf := ifF c47 hf
                      refine lv_goto (tgt := 168) hx hb dX16_scout_154 (by decide) ?_
                      exact J168 y10 y11 y12 hf H locs hP hS ls (lv_sub hl [1, 2, 3, 4, 5, 6, 7] rfl)
            · have hf := ifF (mt (lgc_lt _ _).mpr c33) hf
              refine lv_goto (tgt := 168) hx hb dX16_scout_72 (by decide) ?_
              exact J168 y10 y11 y12 hf H locs hP hS ls (lv_sub hl [1, 2, 3, 4, 5, 6, 7] rfl)
        obtain ⟨ex46, hlp46, hf⟩ := bdP hf
        refine LP46 ((-1), 0, 0, 0, (σ.2.2.1 631), (σ.2.2.1 632), (σ.2.2.1 636), (σ.2.2.2.1 630), (σ.2.2.2.1 635), (σ.2.2.2.1 637)) ex46 hlp46 H locs hP hS ls (lv_sub hl [4, 5, 6, 3, 2, 1, 0] rfl) ?_
        intro y48 y49 a50 a51 a52 a53 a54 a55 hex46 H locs hP hS ls hl
        subst ex46
        dsimp only at hf
        refine lv_iload_n hx hb dX16_scout_174 rfl (lv_at hl 1 rfl) ?_
        refine lv_iconst hx hb dX16_scout_175 ic_m1 ?_
        refine lv_icmp_ne (tgt := 185) hx hb dX16_scout_176 (by decide) (fun c56 => ?_) (fun c56 => ?_)
        · have hf := ifF c56 hf
          refine lv_iload_n hx hb dX16_scout_185 rfl (lv_at hl 0 rfl) ?_
          refine lv_if_ne (tgt := 194) hx hb dX16_scout_186 (by decide) (fun c57 => ?_) (fun c57 => ?_)
          · have hf := ifF c57 hf
            refine lv_lload hx hb dX16_scout_194 (lv_at hl 2 rfl) ?_
            cases hf
            rw [hQ]; exact p_lret hx hb hr hlk hK hP hS dX16_scout_196
          · have hf := ifT c57 hf
            refine lv_iload_n hx hb dX16_scout_189 rfl (lv_at hl 1 rfl) ?_
            refine lv_i2l hx hb dX16_scout_190 rfl ?_
            refine lv_goto (tgt := 196) hx hb dX16_scout_191 (by decide) ?_
            cases hf
            rw [hQ]; exact p_lret hx hb hr hlk hK hP hS dX16_scout_196
        · have hf := ifT c56 hf
          refine lv_ldc2 hx hb hown (hts _ q2136) dX16_scout_179 ?_
          refine lv_goto (tgt := 196) hx hb dX16_scout_182 (by decide) ?_
          cases hf
          rw [hQ]; exact p_lret hx hb hr hlk hK hP hS dX16_scout_196
      · have hf := ifT c9 hf
        exact J31  hf H locs hP hS ls (lv_sub hl [] rfl)
theorem kM_scout (l : Launch) (D : va_G) (G : Nat → ClassId) (ad : Nat → Nat) (σ : Sto) {x1 : Int32} {x2 : Int32} {r_ : Int64} {w_zI502 : Int32} {w_aI631 : Nat → Int32} {w_aI632 : Nat → Int32} {w_aI636 : Nat → Int32} {w_aL630 : Nat → Int64} {w_aL635 : Nat → Int64} {w_aL637 : Nat → Int64} (hf : mo_scout (σ.1 502) (σ.1 522) (σ.1 523) (σ.2.2.1 611) (σ.2.2.1 615) (σ.2.2.1 618) (σ.2.2.1 620) (σ.2.2.1 621) (σ.2.2.1 624) (σ.2.2.1 625) (σ.2.2.1 631) (σ.2.2.1 632) (σ.2.2.1 636) (σ.2.2.2.1 628) (σ.2.2.2.1 630) (σ.2.2.2.1 634) (σ.2.2.2.1 635) (σ.2.2.2.1 637) x1 x2 = some (r_, w_zI502, w_aI631, w_aI632, w_aI636, w_aL630, w_aL635, w_aL637)) : CtL l D clsA G dscM ad yX16_scout (ws_ yX16_scout cX16_scout 12 (Option.some Jvm.ClassFile.FieldType.long)) rmM_scout [.ref (ad 500), .int x1, .int x2] σ r_ (sgM_scout σ w_zI502 w_aI631 w_aI632 w_aI636 w_aL630 w_aL635 w_aL637) :=
  p_ctL (by decide +kernel) (Nat.le_of_ble_eq_true rfl) (fun p e s m below meth c0 ls A E hP hK hA hS hl => wkM_scout E hK hA hf rfl hP hS hl)
/-! useAsTold()V -/
def sgM_useAsTold (σ : Sto) (w0 : Nat → Int64) (w1 : Nat → Int64) : Sto := aL (aL σ 627 w0) 628 w1
theorem sgM_useAsTold_self (σ : Sto) : sgM_useAsTold σ (σ.2.2.2.1 627) (σ.2.2.2.1 628) = σ := by
  unfold sgM_useAsTold
  simp only [zI_self, zL_self, aI_self, aL_self]
theorem sgM_useAsTold_aL627 {σ : Sto} {w0 : Nat → Int64} {w1 : Nat → Int64} {g : Nat → Int64} : aL (sgM_useAsTold σ w0 w1) 627 g = sgM_useAsTold σ g w1 := (aL_comm _ (by decide) _ _).trans (congrArg (fun z => aL z 628 w1) (aL_aL _ 627 _ _))
theorem sgM_useAsTold_aL628 {σ : Sto} {w0 : Nat → Int64} {w1 : Nat → Int64} {g : Nat → Int64} : aL (sgM_useAsTold σ w0 w1) 628 g = sgM_useAsTold σ w0 g := aL_aL _ 628 _ _
theorem sgM_useAsTold_rzI522 {σ : Sto} {w0 : Nat → Int64} {w1 : Nat → Int64} : (sgM_useAsTold σ w0 w1).1 522 = σ.1 522 := rfl
theorem sgM_useAsTold_rzI523 {σ : Sto} {w0 : Nat → Int64} {w1 : Nat → Int64} : (sgM_useAsTold σ w0 w1).1 523 = σ.1 523 := rfl
theorem sgM_useAsTold_raI611 {σ : Sto} {w0 : Nat → Int64} {w1 : Nat → Int64} : (sgM_useAsTold σ w0 w1).2.2.1 611 = σ.2.2.1 611 := rfl
theorem sgM_useAsTold_raI624 {σ : Sto} {w0 : Nat → Int64} {w1 : Nat → Int64} : (sgM_useAsTold σ w0 w1).2.2.1 624 = σ.2.2.1 624 := rfl
theorem sgM_useAsTold_raI625 {σ : Sto} {w0 : Nat → Int64} {w1 : Nat → Int64} : (sgM_useAsTold σ w0 w1).2.2.1 625 = σ.2.2.1 625 := rfl
theorem sgM_useAsTold_raL626 {σ : Sto} {w0 : Nat → Int64} {w1 : Nat → Int64} : (sgM_useAsTold σ w0 w1).2.2.2.1 626 = σ.2.2.2.1 626 := rfl
theorem sgM_useAsTold_raL627 {σ : Sto} {w0 : Nat → Int64} {w1 : Nat → Int64} : (sgM_useAsTold σ w0 w1).2.2.2.1 627 = w0 := rfl
theorem sgM_useAsTold_raL628 {σ : Sto} {w0 : Nat → Int64} {w1 : Nat → Int64} : (sgM_useAsTold σ w0 w1).2.2.2.1 628 = w1 := rfl
abbrev rmM_useAsTold : Room := { frames := 3, cells := 0, slots := 0, locals := 68 }
set_option maxHeartbeats 4000000 in
theorem wkM_useAsTold  {w_aL627 : Nat → Int64} {w_aL628 : Nat → Int64} (E : EN p s m args meth c0 RX16 cX16_useAsTold 2 (Option.none : Option Jvm.ClassFile.FieldType)) (hK : KK D clsA G s) (hA : ∀ q, PA dscM ad s.heap.size q → A q) (hf : mo_useAsTold (σ.1 522) (σ.1 523) (σ.2.2.1 611) (σ.2.2.1 624) (σ.2.2.1 625) (σ.2.2.2.1 626) (σ.2.2.2.1 627) (σ.2.2.2.1 628) = some (w_aL627, w_aL628)) (hQ : Q = MQ below (va_Qv (fun (_ : Unit) => True) (fun _ t => PM D G ad (sgM_useAsTold σ w_aL627 w_aL628) t.heap ∧ KK D clsA G t) A) args s 0 0 A) (hP : PM D G ad σ H) (hS : va_S A s.heap H locs) (hl : lv_has ls 2 [(0, .ref (ad 500))]) : W p l e rmM_useAsTold s m args below meth c0 H locs 0 0 Q (F0 m 0 ls []) := by
  obtain ⟨⟨hx, hb, hml, hown, hts⟩, hr, hlk⟩ := id E
  have hP := hP.to (sgM_useAsTold_self σ).symm
  unfold mo_useAsTold at hf
  refine lv_iconst hx hb dX16_useAsTold_0 ic_0 ?_
  refine lv_istore_n (lv' := [(1, .int 0), (0, .ref (ad 500))]) hx hb dX16_useAsTold_1 rfl hl (by decide) rfl (fun ls hl => ?_)
  have LP2 : ∀ (st2 : Int32 × (Nat → Int64)) (ex2 : ((Nat → Int64))), loop (mo_useAsTold_L2 (σ.1 522) (σ.2.2.2.1 626)) st2 = some ex2 → ∀ (H : Heap) (locs : List Loc), PM D G ad (sgM_useAsTold σ (st2.2) (σ.2.2.2.1 628)) H → va_S A s.heap H locs → ∀ (ls : Array Slot), lv_has ls 2 [(0, .ref (ad 500)), (1, .int (st2.1))] → (∀ (a7 : Nat → Int64), ex2 = a7 → ∀ (H : Heap) (locs : List Loc), PM D G ad (sgM_useAsTold σ a7 (σ.2.2.2.1 628)) H → va_S A s.heap H locs → ∀ (ls : Array Slot), lv_has ls 2 [(0, .ref (ad 500))] → W p l e rmM_useAsTold s m args below meth c0 H locs 0 0 Q (F0 m 28 ls [])) → W p l e rmM_useAsTold s m args below meth c0 H locs 0 0 Q (F0 m 2 ls []) := by
    refine loop_P (fun st2 ex2 o2 hf ih2 hx2 => ?_)
    obtain ⟨y1, a2⟩ := st2
    intro H locs (hP : PM D G ad (sgM_useAsTold σ a2 (σ.2.2.2.1 628)) H) hS ls (hl : lv_has ls 2 [(0, .ref (ad 500)), (1, .int y1)]) KE2_0
    dsimp only [mo_useAsTold_L2] at hf
    refine lv_iload_n hx hb dX16_useAsTold_2 rfl (lv_at hl 1 rfl) ?_
    refine lv_aload_n hx hb dX16_useAsTold_3 rfl (lv_at hl 0 rfl) ?_
    refine gM_22 (v := (σ.1 522)) E hK hP sgM_useAsTold_rzI522 dX16_useAsTold_4 ?_
    refine lv_icmp_ge (tgt := 28) hx hb dX16_useAsTold_7 (by decide) (fun c3 => ?_) (fun c3 => ?_)
    · have hf := ifT c3 hf
      exact KE2_0 _ (hx2 _ (Option.some.inj hf).symm).symm H locs hP hS ls (lv_sub hl [0] rfl)
    · have hf := ifF c3 hf
      refine lv_aload_n hx hb dX16_useAsTold_10 rfl (lv_at hl 0 rfl) ?_
      refine gM_27 E hK hP dX16_useAsTold_11 ?_
      refine lv_iload_n hx hb dX16_useAsTold_14 rfl (lv_at hl 1 rfl) ?_
      refine lv_aload_n hx hb dX16_useAsTold_15 rfl (lv_at hl 0 rfl) ?_
      refine gM_26 E hK hP dX16_useAsTold_16 ?_
      refine lv_iload_n hx hb dX16_useAsTold_19 rfl (lv_at hl 1 rfl) ?_
      obtain ⟨v4, hv4, hf⟩ := bdP hf
      refine p_lald hx hb hK hP dM_626 sgM_useAsTold_raL626 hv4 dX16_useAsTold_20 ?_
      obtain ⟨a5, ha5, hf⟩ := bdP hf
      refine p_last hx hb hK hP hS (hA _ (PA_c dM_627)) dM_627 sgM_useAsTold_raL627 ha5 sgM_useAsTold_aL627 dX16_useAsTold_21 (fun H locs hP hS => ?_)
      obtain ⟨v6, hv6, hf⟩ := bdP hf
      refine lv_iinc (v := v6) (lv' := [(1, .int v6), (0, .ref (ad 500))]) hx hb dX16_useAsTold_22 hl (k := 1) rfl (Option.some.inj hv6) (by decide) rfl (fun ls hl => ?_)
      refine lv_goto (tgt := 2) hx hb dX16_useAsTold_25 (by decide) ?_
      exact ih2 _ (Option.some.inj hf).symm H locs hP hS ls (lv_sub hl [1, 0] rfl) KE2_0
  obtain ⟨ex2, hlp2, hf⟩ := bdP hf
  refine LP2 (0, (σ.2.2.2.1 627)) ex2 hlp2 H locs hP hS ls (lv_sub hl [1, 0] rfl) ?_
  intro a7 hex2 H locs hP hS ls hl
  subst ex2
  refine lv_aload_n hx hb dX16_useAsTold_28 rfl (lv_at hl 0 rfl) ?_
  obtain ⟨a8, u9, hf⟩ := bdP hf
  refine cM_layLikely E hK hP hS hA sgM_useAsTold_rzI523 sgM_useAsTold_raI611 sgM_useAsTold_raI624 sgM_useAsTold_raI625 sgM_useAsTold_raL627 sgM_useAsTold_raL628 u9 ⟨Nat.le_of_ble_eq_true rfl, Nat.le_of_ble_eq_true rfl⟩ ⟨Nat.zero_le _, Nat.zero_le _⟩ hl.1 (Nat.le_of_ble_eq_true rfl) dX16_useAsTold_29 (fun H locs hP hS => ?_)
  rw [sgM_useAsTold_aL628] at hP
  cases hf
  rw [hQ]; exact p_vret hx hb hr hlk hK hP hS dX16_useAsTold_32
theorem kM_useAsTold (l : Launch) (D : va_G) (G : Nat → ClassId) (ad : Nat → Nat) (σ : Sto) {w_aL627 : Nat → Int64} {w_aL628 : Nat → Int64} (hf : mo_useAsTold (σ.1 522) (σ.1 523) (σ.2.2.1 611) (σ.2.2.1 624) (σ.2.2.1 625) (σ.2.2.2.1 626) (σ.2.2.2.1 627) (σ.2.2.2.1 628) = some (w_aL627, w_aL628)) : CtV l D clsA G dscM ad yX16_useAsTold (ws_ yX16_useAsTold cX16_useAsTold 2 (Option.none : Option Jvm.ClassFile.FieldType)) rmM_useAsTold [.ref (ad 500)] σ (sgM_useAsTold σ w_aL627 w_aL628) :=
  p_ctV (by decide +kernel) (Nat.le_of_ble_eq_true rfl) (fun p e s m below meth c0 ls A E hP hK hA hS hl => wkM_useAsTold E hK hA hf rfl hP hS hl)
theorem cM_useAsTold (E : EN p s m args meth c0 RX16 cc nL ret) (hK : KK D clsA G s) (hP : PM D G ad σ H) (hS : va_S A s.heap H locs) (hA : ∀ q, PA dscM ad s.heap.size q → A q) {w_aL627 : Nat → Int64} {w_aL628 : Nat → Int64} {z_worlds : Int32} (e_zI522 : σ.1 522 = z_worlds) {z_knowings : Int32} (e_zI523 : σ.1 523 = z_knowings) {a_many : Nat → Int32} (e_aI611 : σ.2.2.1 611 = a_many) {a_three : Nat → Int32} (e_aI624 : σ.2.2.1 624 = a_three) {a_turn : Nat → Int32} (e_aI625 : σ.2.2.1 625 = a_turn) {a_weight : Nat → Int64} (e_aL626 : σ.2.2.2.1 626 = a_weight) {a_use : Nat → Int64} (e_aL627 : σ.2.2.2.1 627 = a_use) {a_likely : Nat → Int64} (e_aL628 : σ.2.2.2.1 628 = a_likely) (hu : mo_useAsTold z_worlds z_knowings a_many a_three a_turn a_weight a_use a_likely = some (w_aL627, w_aL628)) (hR : rmM_useAsTold.frames + 1 ≤ R.frames ∧ 8 + (2 + 11) + rmM_useAsTold.locals ≤ R.locals) (hcs : cells ≤ R.cells ∧ slots ≤ R.slots) (hsz : ls.size = nL) (hW : (rest.map fun v => v.category).sum ≤ 8) (hdg : decode cc pc = .ok (.invokevirtual 460, 3)) (kk : ∀ (H1 : Heap) (locs1 : List Loc), PM D G ad (aL (aL σ 627 w_aL627) 628 w_aL628) H1 → va_S A s.heap H1 locs1 → W p l e R s m args below meth c0 H1 locs1 cells slots Q (F0 m (pc + 3) ls rest)) : W p l e R s m args below meth c0 H locs cells slots Q (F0 m pc ls (.ref (ad 500) :: rest)) := by
  subst e_zI522
  subst e_zI523
  subst e_aI611
  subst e_aI624
  subst e_aI625
  subst e_aL626
  subst e_aL627
  subst e_aL628
  exact p_callV (As := []) (rest := rest) E.1 hK hP hS hA (kM_useAsTold l D G ad σ hu) (cwV 0 E.1.2.2.2.2 (lw_V q2237 q2239 qs121 q142 q2240) rfl rfl rfl (by decide +kernel) hR) dM_500 rfl rfl rfl hsz rfl hW hdg hcs kk
/-! keep(I)J -/
def sgM_keep_2 (σ : Sto) (w0 : Int32) (w1 : Nat → Int32) (w2 : Nat → Int32) (w3 : Nat → Int64) (w4 : Nat → Int64) (w5 : Nat → Int64) (w6 : Nat → Int64) (w7 : Nat → Int64) : Sto := aL (aL (aL (aL (aL (aI (aI (zI σ 502 w0) 631 w1) 636 w2) 627 w3) 628 w4) 630 w5) 635 w6) 637 w7
theorem sgM_keep_2_self (σ : Sto) : sgM_keep_2 σ (σ.1 502) (σ.2.2.1 631) (σ.2.2.1 636) (σ.2.2.2.1 627) (σ.2.2.2.1 628) (σ.2.2.2.1 630) (σ.2.2.2.1 635) (σ.2.2.2.1 637) = σ := by
  unfold sgM_keep_2
  simp only [zI_self, zL_self, aI_self, aL_self]
theorem sgM_keep_2_zI502 {σ : Sto} {w0 : Int32} {w1 : Nat → Int32} {w2 : Nat → Int32} {w3 : Nat → Int64} {w4 : Nat → Int64} {w5 : Nat → Int64} {w6 : Nat → Int64} {w7 : Nat → Int64} {g : Int32} : zI (sgM_keep_2 σ w0 w1 w2 w3 w4 w5 w6 w7) 502 g = sgM_keep_2 σ g w1 w2 w3 w4 w5 w6 w7 := (cm_zI_aL _ _ _ _ _).trans (congrArg (fun z => aL z 637 w7) ((cm_zI_aL _ _ _ _ _).trans (congrArg (fun z => aL z 635 w6) ((cm_zI_aL _ _ _ _ _).trans (congrArg (fun z => aL z 630 w5) ((cm_zI_aL _ _ _ _ _).trans (congrArg (fun z => aL z 628 w4) ((cm_zI_aL _ _ _ _ _).trans (congrArg (fun z => aL z 627 w3) ((cm_zI_aI _ _ _ _ _).trans (congrArg (fun z => aI z 636 w2) ((cm_zI_aI _ _ _ _ _).trans (congrArg (fun z => aI z 631 w1) (zI_zI _ 502 _ _))))))))))))))
theorem sgM_keep_2_aI631 {σ : Sto} {w0 : Int32} {w1 : Nat → Int32} {w2 : Nat → Int32} {w3 : Nat → Int64} {w4 : Nat → Int64} {w5 : Nat → Int64} {w6 : Nat → Int64} {w7 : Nat → Int64} {g : Nat → Int32} : aI (sgM_keep_2 σ w0 w1 w2 w3 w4 w5 w6 w7) 631 g = sgM_keep_2 σ w0 g w2 w3 w4 w5 w6 w7 := (cm_aI_aL _ _ _ _ _).trans (congrArg (fun z => aL z 637 w7) ((cm_aI_aL _ _ _ _ _).trans (congrArg (fun z => aL z 635 w6) ((cm_aI_aL _ _ _ _ _).trans (congrArg (fun z => aL z 630 w5) ((cm_aI_aL _ _ _ _ _).trans (congrArg (fun z => aL z 628 w4) ((cm_aI_aL _ _ _ _ _).trans (congrArg (fun z => aL z 627 w3) ((aI_comm _ (by decide) _ _).trans (congrArg (fun z => aI z 636 w2) (aI_aI _ 631 _ _))))))))))))
theorem sgM_keep_2_aI636 {σ : Sto} {w0 : Int32} {w1 : Nat → Int32} {w2 : Nat → Int32} {w3 : Nat → Int64} {w4 : Nat → Int64} {w5 : Nat → Int64} {w6 : Nat → Int64} {w7 : Nat → Int64} {g : Nat → Int32} : aI (sgM_keep_2 σ w0 w1 w2 w3 w4 w5 w6 w7) 636 g = sgM_keep_2 σ w0 w1 g w3 w4 w5 w6 w7 := (cm_aI_aL _ _ _ _ _).trans (congrArg (fun z => aL z 637 w7) ((cm_aI_aL _ _ _ _ _).trans (congrArg (fun z => aL z 635 w6) ((cm_aI_aL _ _ _ _ _).trans (congrArg (fun z => aL z 630 w5) ((cm_aI_aL _ _ _ _ _).trans (congrArg (fun z => aL z 628 w4) ((cm_aI_aL _ _ _ _ _).trans (congrArg (fun z => aL z 627 w3) (aI_aI _ 636 _ _))))))))))
theorem sgM_keep_2_aL627 {σ : Sto} {w0 : Int32} {w1 : Nat → Int32} {w2 : Nat → Int32} {w3 : Nat → Int64} {w4 : Nat → Int64} {w5 : Nat → Int64} {w6 : Nat → Int64} {w7 : Nat → Int64} {g : Nat → Int64} : aL (sgM_keep_2 σ w0 w1 w2 w3 w4 w5 w6 w7) 627 g = sgM_keep_2 σ w0 w1 w2 g w4 w5 w6 w7 := (aL_comm _ (by decide) _ _).trans (congrArg (fun z => aL z 637 w7) ((aL_comm _ (by decide) _ _).trans (congrArg (fun z => aL z 635 w6) ((aL_comm _ (by decide) _ _).trans (congrArg (fun z => aL z 630 w5) ((aL_comm _ (by decide) _ _).trans (congrArg (fun z => aL z 628 w4) (aL_aL _ 627 _ _))))))))
theorem sgM_keep_2_aL628 {σ : Sto} {w0 : Int32} {w1 : Nat → Int32} {w2 : Nat → Int32} {w3 : Nat → Int64} {w4 : Nat → Int64} {w5 : Nat → Int64} {w6 : Nat → Int64} {w7 : Nat → Int64} {g : Nat → Int64} : aL (sgM_keep_2 σ w0 w1 w2 w3 w4 w5 w6 w7) 628 g = sgM_keep_2 σ w0 w1 w2 w3 g w5 w6 w7 := (aL_comm _ (by decide) _ _).trans (congrArg (fun z => aL z 637 w7) ((aL_comm _ (by decide) _ _).trans (congrArg (fun z => aL z 635 w6) ((aL_comm _ (by decide) _ _).trans (congrArg (fun z => aL z 630 w5) (aL_aL _ 628 _ _))))))
theorem sgM_keep_2_aL630 {σ : Sto} {w0 : Int32} {w1 : Nat → Int32} {w2 : Nat → Int32} {w3 : Nat → Int64} {w4 : Nat → Int64} {w5 : Nat → Int64} {w6 : Nat → Int64} {w7 : Nat → Int64} {g : Nat → Int64} : aL (sgM_keep_2 σ w0 w1 w2 w3 w4 w5 w6 w7) 630 g = sgM_keep_2 σ w0 w1 w2 w3 w4 g w6 w7 := (aL_comm _ (by decide) _ _).trans (congrArg (fun z => aL z 637 w7) ((aL_comm _ (by decide) _ _).trans (congrArg (fun z => aL z 635 w6) (aL_aL _ 630 _ _))))
theorem sgM_keep_2_aL635 {σ : Sto} {w0 : Int32} {w1 : Nat → Int32} {w2 : Nat → Int32} {w3 : Nat → Int64} {w4 : Nat → Int64} {w5 : Nat → Int64} {w6 : Nat → Int64} {w7 : Nat → Int64} {g : Nat → Int64} : aL (sgM_keep_2 σ w0 w1 w2 w3 w4 w5 w6 w7) 635 g = sgM_keep_2 σ w0 w1 w2 w3 w4 w5 g w7 := (aL_comm _ (by decide) _ _).trans (congrArg (fun z => aL z 637 w7) (aL_aL _ 635 _ _))
theorem sgM_keep_2_aL637 {σ : Sto} {w0 : Int32} {w1 : Nat → Int32} {w2 : Nat → Int32} {w3 : Nat → Int64} {w4 : Nat → Int64} {w5 : Nat → Int64} {w6 : Nat → Int64} {w7 : Nat → Int64} {g : Nat → Int64} : aL (sgM_keep_2 σ w0 w1 w2 w3 w4 w5 w6 w7) 637 g = sgM_keep_2 σ w0 w1 w2 w3 w4 w5 w6 g := aL_aL _ 637 _ _
theorem sgM_keep_2_rzI502 {σ : Sto} {w0 : Int32} {w1 : Nat → Int32} {w2 : Nat → Int32} {w3 : Nat → Int64} {w4 : Nat → Int64} {w5 : Nat → Int64} {w6 : Nat → Int64} {w7 : Nat → Int64} : (sgM_keep_2 σ w0 w1 w2 w3 w4 w5 w6 w7).1 502 = w0 := rfl
theorem sgM_keep_2_rzI522 {σ : Sto} {w0 : Int32} {w1 : Nat → Int32} {w2 : Nat → Int32} {w3 : Nat → Int64} {w4 : Nat → Int64} {w5 : Nat → Int64} {w6 : Nat → Int64} {w7 : Nat → Int64} : (sgM_keep_2 σ w0 w1 w2 w3 w4 w5 w6 w7).1 522 = σ.1 522 := rfl
theorem sgM_keep_2_rzI523 {σ : Sto} {w0 : Int32} {w1 : Nat → Int32} {w2 : Nat → Int32} {w3 : Nat → Int64} {w4 : Nat → Int64} {w5 : Nat → Int64} {w6 : Nat → Int64} {w7 : Nat → Int64} : (sgM_keep_2 σ w0 w1 w2 w3 w4 w5 w6 w7).1 523 = σ.1 523 := rfl
theorem sgM_keep_2_raI611 {σ : Sto} {w0 : Int32} {w1 : Nat → Int32} {w2 : Nat → Int32} {w3 : Nat → Int64} {w4 : Nat → Int64} {w5 : Nat → Int64} {w6 : Nat → Int64} {w7 : Nat → Int64} : (sgM_keep_2 σ w0 w1 w2 w3 w4 w5 w6 w7).2.2.1 611 = σ.2.2.1 611 := rfl
theorem sgM_keep_2_raI615 {σ : Sto} {w0 : Int32} {w1 : Nat → Int32} {w2 : Nat → Int32} {w3 : Nat → Int64} {w4 : Nat → Int64} {w5 : Nat → Int64} {w6 : Nat → Int64} {w7 : Nat → Int64} : (sgM_keep_2 σ w0 w1 w2 w3 w4 w5 w6 w7).2.2.1 615 = σ.2.2.1 615 := rfl
theorem sgM_keep_2_raI618 {σ : Sto} {w0 : Int32} {w1 : Nat → Int32} {w2 : Nat → Int32} {w3 : Nat → Int64} {w4 : Nat → Int64} {w5 : Nat → Int64} {w6 : Nat → Int64} {w7 : Nat → Int64} : (sgM_keep_2 σ w0 w1 w2 w3 w4 w5 w6 w7).2.2.1 618 = σ.2.2.1 618 := rfl
theorem sgM_keep_2_raI620 {σ : Sto} {w0 : Int32} {w1 : Nat → Int32} {w2 : Nat → Int32} {w3 : Nat → Int64} {w4 : Nat → Int64} {w5 : Nat → Int64} {w6 : Nat → Int64} {w7 : Nat → Int64} : (sgM_keep_2 σ w0 w1 w2 w3 w4 w5 w6 w7).2.2.1 620 = σ.2.2.1 620 := rfl
theorem sgM_keep_2_raI621 {σ : Sto} {w0 : Int32} {w1 : Nat → Int32} {w2 : Nat → Int32} {w3 : Nat → Int64} {w4 : Nat → Int64} {w5 : Nat → Int64} {w6 : Nat → Int64} {w7 : Nat → Int64} : (sgM_keep_2 σ w0 w1 w2 w3 w4 w5 w6 w7).2.2.1 621 = σ.2.2.1 621 := rfl
theorem sgM_keep_2_raI624 {σ : Sto} {w0 : Int32} {w1 : Nat → Int32} {w2 : Nat → Int32} {w3 : Nat → Int64} {w4 : Nat → Int64} {w5 : Nat → Int64} {w6 : Nat → Int64} {w7 : Nat → Int64} : (sgM_keep_2 σ w0 w1 w2 w3 w4 w5 w6 w7).2.2.1 624 = σ.2.2.1 624 := rfl
theorem sgM_keep_2_raI625 {σ : Sto} {w0 : Int32} {w1 : Nat → Int32} {w2 : Nat → Int32} {w3 : Nat → Int64} {w4 : Nat → Int64} {w5 : Nat → Int64} {w6 : Nat → Int64} {w7 : Nat → Int64} : (sgM_keep_2 σ w0 w1 w2 w3 w4 w5 w6 w7).2.2.1 625 = σ.2.2.1 625 := rfl
theorem sgM_keep_2_raI631 {σ : Sto} {w0 : Int32} {w1 : Nat → Int32} {w2 : Nat → Int32} {w3 : Nat → Int64} {w4 : Nat → Int64} {w5 : Nat → Int64} {w6 : Nat → Int64} {w7 : Nat → Int64} : (sgM_keep_2 σ w0 w1 w2 w3 w4 w5 w6 w7).2.2.1 631 = w1 := rfl
theorem sgM_keep_2_raI636 {σ : Sto} {w0 : Int32} {w1 : Nat → Int32} {w2 : Nat → Int32} {w3 : Nat → Int64} {w4 : Nat → Int64} {w5 : Nat → Int64} {w6 : Nat → Int64} {w7 : Nat → Int64} : (sgM_keep_2 σ w0 w1 w2 w3 w4 w5 w6 w7).2.2.1 636 = w2 := rfl
theorem sgM_keep_2_raL626 {σ : Sto} {w0 : Int32} {w1 : Nat → Int32} {w2 : Nat → Int32} {w3 : Nat → Int64} {w4 : Nat → Int64} {w5 : Nat → Int64} {w6 : Nat → Int64} {w7 : Nat → Int64} : (sgM_keep_2 σ w0 w1 w2 w3 w4 w5 w6 w7).2.2.2.1 626 = σ.2.2.2.1 626 := rfl
theorem sgM_keep_2_raL627 {σ : Sto} {w0 : Int32} {w1 : Nat → Int32} {w2 : Nat → Int32} {w3 : Nat → Int64} {w4 : Nat → Int64} {w5 : Nat → Int64} {w6 : Nat → Int64} {w7 : Nat → Int64} : (sgM_keep_2 σ w0 w1 w2 w3 w4 w5 w6 w7).2.2.2.1 627 = w3 := rfl
theorem sgM_keep_2_raL628 {σ : Sto} {w0 : Int32} {w1 : Nat → Int32} {w2 : Nat → Int32} {w3 : Nat → Int64} {w4 : Nat → Int64} {w5 : Nat → Int64} {w6 : Nat → Int64} {w7 : Nat → Int64} : (sgM_keep_2 σ w0 w1 w2 w3 w4 w5 w6 w7).2.2.2.1 628 = w4 := rfl
theorem sgM_keep_2_raL630 {σ : Sto} {w0 : Int32} {w1 : Nat → Int32} {w2 : Nat → Int32} {w3 : Nat → Int64} {w4 : Nat → Int64} {w5 : Nat → Int64} {w6 : Nat → Int64} {w7 : Nat → Int64} : (sgM_keep_2 σ w0 w1 w2 w3 w4 w5 w6 w7).2.2.2.1 630 = w5 := rfl
theorem sgM_keep_2_raL634 {σ : Sto} {w0 : Int32} {w1 : Nat → Int32} {w2 : Nat → Int32} {w3 : Nat → Int64} {w4 : Nat → Int64} {w5 : Nat → Int64} {w6 : Nat → Int64} {w7 : Nat → Int64} : (sgM_keep_2 σ w0 w1 w2 w3 w4 w5 w6 w7).2.2.2.1 634 = σ.2.2.2.1 634 := rfl
theorem sgM_keep_2_raL635 {σ : Sto} {w0 : Int32} {w1 : Nat → Int32} {w2 : Nat → Int32} {w3 : Nat → Int64} {w4 : Nat → Int64} {w5 : Nat → Int64} {w6 : Nat → Int64} {w7 : Nat → Int64} : (sgM_keep_2 σ w0 w1 w2 w3 w4 w5 w6 w7).2.2.2.1 635 = w6 := rfl
theorem sgM_keep_2_raL637 {σ : Sto} {w0 : Int32} {w1 : Nat → Int32} {w2 : Nat → Int32} {w3 : Nat → Int64} {w4 : Nat → Int64} {w5 : Nat → Int64} {w6 : Nat → Int64} {w7 : Nat → Int64} : (sgM_keep_2 σ w0 w1 w2 w3 w4 w5 w6 w7).2.2.2.1 637 = w7 := rfl
abbrev rmM_keep_2 : Room := { frames := 6, cells := 0, slots := 0, locals := 156 }
set_option maxHeartbeats 4000000 in
theorem wkM_keep_2 {x1 : Int32} {r_ : Int64} {w_zI502 : Int32} {w_aI631 : Nat → Int32} {w_aI636 : Nat → Int32} {w_aL627 : Nat → Int64} {w_aL628 : Nat → Int64} {w_aL630 : Nat → Int64} {w_aL635 : Nat → Int64} {w_aL637 : Nat → Int64} (E : EN p s m args meth c0 RX16 cX16_keep_2 4 (Option.some Jvm.ClassFile.FieldType.long)) (hK : KK D clsA G s) (hA : ∀ q, PA dscM ad s.heap.size q → A q) (hf : mo_keep_2 (σ.1 502) (σ.1 522) (σ.1 523) (σ.2.2.1 611) (σ.2.2.1 615) (σ.2.2.1 618) (σ.2.2.1 620) (σ.2.2.1 621) (σ.2.2.1 624) (σ.2.2.1 625) (σ.2.2.1 631) (σ.2.2.1 636) (σ.2.2.2.1 626) (σ.2.2.2.1 627) (σ.2.2.2.1 628) (σ.2.2.2.1 630) (σ.2.2.2.1 634) (σ.2.2.2.1 635) (σ.2.2.2.1 637) x1 = some (r_, w_zI502, w_aI631, w_aI636, w_aL627, w_aL628, w_aL630, w_aL635, w_aL637)) (hQ : Q = MQ below (va_Ql (fun x (_ : Unit) => x = r_) (fun _ t => PM D G ad (sgM_keep_2 σ w_zI502 w_aI631 w_aI636 w_aL627 w_aL628 w_aL630 w_aL635 w_aL637) t.heap ∧ KK D clsA G t) A) args s 0 0 A) (hP : PM D G ad σ H) (hS : va_S A s.heap H locs) (hl : lv_has ls 4 [(0, .ref (ad 500)), (1, .int x1)]) : W p l e rmM_keep_2 s m args below meth c0 H locs 0 0 Q (F0 m 0 ls []) := by
  obtain ⟨⟨hx, hb, hml, hown, hts⟩, hr, hlk⟩ := id E
  have hP := hP.to (sgM_keep_2_self σ).symm
  unfold mo_keep_2 at hf
  refine lv_aload_n hx hb dX16_keep_2_0 rfl (lv_at hl 0 rfl) ?_
  refine lv_iconst hx hb dX16_keep_2_1 ic_0 ?_
  refine uM_2 E hK hP hS (hA _ (PA_c dM_500)) sgM_keep_2_zI502 dX16_keep_2_2 (fun H locs hP hS => ?_)
  refine lv_aload_n hx hb dX16_keep_2_5 rfl (lv_at hl 0 rfl) ?_
  refine lv_iload_n hx hb dX16_keep_2_6 rfl (lv_at hl 1 rfl) ?_
  obtain ⟨v1, u2, hf⟩ := bdP hf
  refine cM_isDoubtful E hK hP hS hA sgM_keep_2_raI611 u2 ⟨Nat.le_of_ble_eq_true rfl, Nat.le_of_ble_eq_true rfl⟩ ⟨Nat.zero_le _, Nat.zero_le _⟩ hl.1 (Nat.le_of_ble_eq_true rfl) dX16_keep_2_7 (fun H locs hP hS => ?_)
  have J20 : mo_keep_2_J20 (σ.2.2.1 631) (σ.2.2.1 636) (σ.2.2.2.1 627) (σ.2.2.2.1 628) (σ.2.2.2.1 630) (σ.2.2.2.1 635) (σ.2.2.2.1 637) = some (r_, w_zI502, w_aI631, w_aI636, w_aL627, w_aL628, w_aL630, w_aL635, w_aL637) → ∀ (H : Heap) (locs : List Loc), PM D G ad (sgM_keep_2 σ 0 (σ.2.2.1 631) (σ.2.2.1 636) (σ.2.2.2.1 627) (σ.2.2.2.1 628) (σ.2.2.2.1 630) (σ.2.2.2.1 635) (σ.2.2.2.1 637)) H → va_S A s.heap H locs → ∀ (ls : Array Slot), lv_has ls 4 [] → W p l e rmM_keep_2 s m args below meth c0 H locs 0 0 Q (F0 m 20 ls []) := by
    intro  hf H locs hP hS ls hl
    unfold mo_keep_2_J20 at hf
    refine lv_ldc2 hx hb hown (hts _ q1970) dX16_keep_2_20 ?_
    cases hf
    rw [hQ]; exact p_lret hx hb hr hlk hK hP hS dX16_keep_2_23
  refine lv_if_eq (tgt := 20) hx hb dX16_keep_2_10 (by decide) (fun c3 => ?_) (fun c3 => ?_)
  · have hf := ifT c3 hf
    exact J20  hf H locs hP hS ls (lv_sub hl [] rfl)
  · have hf := ifF c3 hf
    refine lv_aload_n hx hb dX16_keep_2_13 rfl (lv_at hl 0 rfl) ?_
    obtain ⟨v4, u5, hf⟩ := bdP hf
    refine cM_hasEnds E hK hP hS hA sgM_keep_2_raI611 u5 ⟨Nat.le_of_ble_eq_true rfl, Nat.le_of_ble_eq_true rfl⟩ ⟨Nat.zero_le _, Nat.zero_le _⟩ hl.1 (Nat.le_of_ble_eq_true rfl) dX16_keep_2_14 (fun H locs hP hS => ?_)
    refine lv_if_ne (tgt := 24) hx hb dX16_keep_2_17 (by decide) (fun c6 => ?_) (fun c6 => ?_)
    · have hf := ifF c6 hf
      refine lv_iconst hx hb dX16_keep_2_24 ic_0 ?_
      refine lv_istore_n (lv' := [(2, .int 0), (0, .ref (ad 500)), (1, .int x1)]) hx hb dX16_keep_2_25 rfl hl (by decide) rfl (fun ls hl => ?_)
      have LP26 : ∀ (st26 : Int32 × (Nat → Int64)) (ex26 : ((Nat → Int64))), loop (mo_keep_2_L26 (σ.1 522) (σ.2.2.2.1 626) x1) st26 = some ex26 → ∀ (H : Heap) (locs : List Loc), PM D G ad (sgM_keep_2 σ 0 (σ.2.2.1 631) (σ.2.2.1 636) (st26.2) (σ.2.2.2.1 628) (σ.2.2.2.1 630) (σ.2.2.2.1 635) (σ.2.2.2.1 637)) H → va_S A s.heap H locs → ∀ (ls : Array Slot), lv_has ls 4 [(0, .ref (ad 500)), (1, .int x1), (2, .int (st26.1))] → (∀ (a17 : Nat → Int64), ex26 = a17 → ∀ (H : Heap) (locs : List Loc), PM D G ad (sgM_keep_2 σ 0 (σ.2.2.1 631) (σ.2.2.1 636) a17 (σ.2.2.2.1 628) (σ.2.2.2.1 630) (σ.2.2.2.1 635) (σ.2.2.2.1 637)) H → va_S A s.heap H locs → ∀ (ls : Array Slot), lv_has ls 4 [(0, .ref (ad 500))] → W p l e rmM_keep_2 s m args below meth c0 H locs 0 0 Q (F0 m 76 ls [])) → W p l e rmM_keep_2 s m args below meth c0 H locs 0 0 Q (F0 m 26 ls []) := by
        refine loop_P (fun st26 ex26 o26 hf ih26 hx26 => ?_)
        obtain ⟨y7, a8⟩ := st26
        intro H locs (hP : PM D G ad (sgM_keep_2 σ 0 (σ.2.2.1 631) (σ.2.2.1 636) a8 (σ.2.2.2.1 628) (σ.2.2.2.1 630) (σ.2.2.2.1 635) (σ.2.2.2.1 637)) H) hS ls (hl : lv_has ls 4 [(0, .ref (ad 500)), (1, .int x1), (2, .int y7)]) KE26_0
        dsimp only [mo_keep_2_L26] at hf
        refine lv_iload_n hx hb dX16_keep_2_26 rfl (lv_at hl 2 rfl) ?_
        refine lv_aload_n hx hb dX16_keep_2_27 rfl (lv_at hl 0 rfl) ?_
        refine gM_22 (v := (σ.1 522)) E hK hP sgM_keep_2_rzI522 dX16_keep_2_28 ?_
        refine lv_icmp_ge (tgt := 76) hx hb dX16_keep_2_31 (by decide) (fun c9 => ?_) (fun c9 => ?_)
        · have hf := ifT c9 hf
          exact KE26_0 _ (hx26 _ (Option.some.inj hf).symm).symm H locs hP hS ls (lv_sub hl [0] rfl)
        · have hf := ifF c9 hf
          refine lv_aload_n hx hb dX16_keep_2_34 rfl (lv_at hl 0 rfl) ?_
          refine gM_27 E hK hP dX16_keep_2_35 ?_
          refine lv_iload_n hx hb dX16_keep_2_38 rfl (lv_at hl 2 rfl) ?_
          refine lv_iload_n hx hb dX16_keep_2_39 rfl (lv_at hl 2 rfl) ?_
          refine lv_iload_n hx hb dX16_keep_2_40 rfl (lv_at hl 1 rfl) ?_
          refine lv_ishr hx hb dX16_keep_2_41 ?_
          refine lv_iconst hx hb dX16_keep_2_42 ic_1 ?_
          refine lv_iand hx hb dX16_keep_2_43 ?_
          refine lv_iconst hx hb dX16_keep_2_44 ic_1 ?_
          have J69 : ∀ (k10 : Int64) (k11 : Int32), mo_keep_2_J69 y7 a8 k10 k11 = some o26 → ∀ (H : Heap) (locs : List Loc), PM D G ad (sgM_keep_2 σ 0 (σ.2.2.1 631) (σ.2.2.1 636) a8 (σ.2.2.2.1 628) (σ.2.2.2.1 630) (σ.2.2.2.1 635) (σ.2.2.2.1 637)) H → va_S A s.heap H locs → ∀ (ls : Array Slot), lv_has ls 4 [(0, .ref (ad 500)), (1, .int x1), (2, .int y7)] → W p l e rmM_keep_2 s m args below meth c0 H locs 0 0 Q (F0 m 69 ls [.long k10, .int k11, .ref (ad 627)]) := by
            intro k10 k11 hf H locs hP hS ls hl
            unfold mo_keep_2_J69 at hf
            obtain ⟨a12, ha12, hf⟩ := bdP hf
            refine p_last hx hb hK hP hS (hA _ (PA_c dM_627)) dM_627 sgM_keep_2_raL627 ha12 sgM_keep_2_aL627 dX16_keep_2_69 (fun H locs hP hS => ?_)
            obtain ⟨v13, hv13, hf⟩ := bdP hf
            refine lv_iinc (v := v13) (lv' := [(2, .int v13), (0, .ref (ad 500)), (1, .int x1)]) hx hb dX16_keep_2_70 hl (k := 2) rfl (Option.some.inj hv13) (by decide) rfl (fun ls hl => ?_)
            refine lv_goto (tgt := 26) hx hb dX16_keep_2_73 (by decide) ?_
            exact ih26 _ (Option.some.inj hf).symm H locs hP hS ls (lv_sub hl [1, 2, 0] rfl) KE26_0
          refine lv_icmp_ne (tgt := 52) hx hb dX16_keep_2_45 (by decide) (fun c14 => ?_) (fun c14 => ?_)
          · have hf := ifF c14 hf
            refine lv_aload_n hx hb dX16_keep_2_52 rfl (lv_at hl 0 rfl) ?_
            refine gM_26 E hK hP dX16_keep_2_53 ?_
            refine lv_iload_n hx hb dX16_keep_2_56 rfl (lv_at hl 2 rfl) ?_
            obtain ⟨v15, hv15, hf⟩ := bdP hf
            refine p_lald hx hb hK hP dM_626 sgM_keep_2_raL626 hv15 dX16_keep_2_57 ?_
            refine lv_aload_n hx hb dX16_keep_2_58 rfl (lv_at hl 0 rfl) ?_
            refine gM_26 E hK hP dX16_keep_2_59 ?_
            refine lv_iload_n hx hb dX16_keep_2_62 rfl (lv_at hl 2 rfl) ?_
            refine lv_iconst hx hb dX16_keep_2_63 ic_1 ?_
            refine lv_iload_n hx hb dX16_keep_2_64 rfl (lv_at hl 1 rfl) ?_
            refine lv_ishl hx hb dX16_keep_2_65 ?_
            refine lv_ior hx hb dX16_keep_2_66 ?_
            obtain ⟨v16, hv16, hf⟩ := bdP hf
            refine p_lald hx hb hK hP dM_626 sgM_keep_2_raL626 hv16 dX16_keep_2_67 ?_
            refine lv_ladd hx hb dX16_keep_2_68 ?_
            exact J69 (v15 + v16) y7 hf H locs hP hS ls (lv_sub hl [0, 1, 2] rfl)
          · have hf := ifT c14 hf
            refine lv_lconst hx hb dX16_keep_2_48 lc_0 ?_
            refine lv_goto (tgt := 69) hx hb dX16_keep_2_49 (by decide) ?_
            exact J69 0 y7 hf H locs hP hS ls (lv_sub hl [0, 1, 2] rfl)
      obtain ⟨ex26, hlp26, hf⟩ := bdP hf
      refine LP26 (0, (σ.2.2.2.1 627)) ex26 hlp26 H locs hP hS ls (lv_sub hl [1, 2, 0] rfl) ?_
      intro a17 hex26 H locs hP hS ls hl
      subst ex26
      refine lv_aload_n hx hb dX16_keep_2_76 rfl (lv_at hl 0 rfl) ?_
      obtain ⟨a18, u19, hf⟩ := bdP hf
      refine cM_layLikely E hK hP hS hA sgM_keep_2_rzI523 sgM_keep_2_raI611 sgM_keep_2_raI624 sgM_keep_2_raI625 sgM_keep_2_raL627 sgM_keep_2_raL628 u19 ⟨Nat.le_of_ble_eq_true rfl, Nat.le_of_ble_eq_true rfl⟩ ⟨Nat.zero_le _, Nat.zero_le _⟩ hl.1 (Nat.le_of_ble_eq_true rfl) dX16_keep_2_77 (fun H locs hP hS => ?_)
      rw [sgM_keep_2_aL628] at hP
      refine lv_aload_n hx hb dX16_keep_2_80 rfl (lv_at hl 0 rfl) ?_
      refine lv_iconst hx hb dX16_keep_2_81 ic_3 ?_
      refine lv_iconst hx hb dX16_keep_2_82 ic_1 ?_
      obtain ⟨⟨a20, a21, a22, a23, a24⟩, u25, hf⟩ := bdP hf
      dsimp only at hf
      refine cM_layValues E hK hP hS hA sgM_keep_2_rzI523 sgM_keep_2_raI611 sgM_keep_2_raI615 sgM_keep_2_raI618 sgM_keep_2_raI620 sgM_keep_2_raI621 sgM_keep_2_raI624 sgM_keep_2_raI625 sgM_keep_2_raI631 sgM_keep_2_raI636 sgM_keep_2_raL628 sgM_keep_2_raL630 sgM_keep_2_raL634 sgM_keep_2_raL635 sgM_keep_2_raL637 u25 ⟨Nat.le_of_ble_eq_true rfl, Nat.le_of_ble_eq_true rfl⟩ ⟨Nat.zero_le _, Nat.zero_le _⟩ hl.1 (Nat.le_of_ble_eq_true rfl) dX16_keep_2_83 (fun H locs hP hS => ?_)
      rw [sgM_keep_2_aI631, sgM_keep_2_aI636, sgM_keep_2_aL630, sgM_keep_2_aL635, sgM_keep_2_aL637] at hP
      refine lv_aload_n hx hb dX16_keep_2_86 rfl (lv_at hl 0 rfl) ?_
      refine lv_iconst hx hb dX16_keep_2_87 ic_3 ?_
      refine lv_iconst hx hb dX16_keep_2_88 ic_1 ?_
      refine lv_aload_n hx hb dX16_keep_2_89 rfl (lv_at hl 0 rfl) ?_
      refine gM_11 E hK hP dX16_keep_2_90 ?_
      refine lv_bipush hx hb dX16_keep_2_93 bp_6 ?_
      obtain ⟨v26, hv26, hf⟩ := bdP hf
      refine p_iald hx hb hK hP dM_611 sgM_keep_2_raI611 hv26 dX16_keep_2_95 ?_
      refine lv_iconst hx hb dX16_keep_2_96 ic_0 ?_
      obtain ⟨v27, u28, hf⟩ := bdP hf
      refine cM_arrives E hK hP hS hA sgM_keep_2_raI611 sgM_keep_2_raI620 sgM_keep_2_raI624 sgM_keep_2_raL628 sgM_keep_2_raL630 u28 ⟨Nat.le_of_ble_eq_true rfl, Nat.le_of_ble_eq_true rfl⟩ ⟨Nat.zero_le _, Nat.zero_le _⟩ hl.1 (Nat.le_of_ble_eq_true rfl) dX16_keep_2_97 (fun H locs hP hS => ?_)
      refine lv_lstore_n (lv' := [(2, .long v27), (0, .ref (ad 500))]) hx hb dX16_keep_2_100 rfl hl (by decide) rfl (fun ls hl => ?_)
      refine lv_aload_n hx hb dX16_keep_2_101 rfl (lv_at hl 1 rfl) ?_
      obtain ⟨⟨a29, a30⟩, u31, hf⟩ := bdP hf
      dsimp only at hf
      refine cM_useAsTold E hK hP hS hA sgM_keep_2_rzI522 sgM_keep_2_rzI523 sgM_keep_2_raI611 sgM_keep_2_raI624 sgM_keep_2_raI625 sgM_keep_2_raL626 sgM_keep_2_raL627 sgM_keep_2_raL628 u31 ⟨Nat.le_of_ble_eq_true rfl, Nat.le_of_ble_eq_true rfl⟩ ⟨Nat.zero_le _, Nat.zero_le _⟩ hl.1 (Nat.le_of_ble_eq_true rfl) dX16_keep_2_102 (fun H locs hP hS => ?_)
      rw [sgM_keep_2_aL627, sgM_keep_2_aL628] at hP
      refine lv_aload_n hx hb dX16_keep_2_105 rfl (lv_at hl 1 rfl) ?_
      refine lv_lload_n hx hb dX16_keep_2_106 rfl (lv_at hl 0 rfl) ?_
      obtain ⟨v32, u33, hf⟩ := bdP hf
      refine cM_told E hK hP hS hA u33 ⟨Nat.le_of_ble_eq_true rfl, Nat.le_of_ble_eq_true rfl⟩ ⟨Nat.zero_le _, Nat.zero_le _⟩ hl.1 (Nat.le_of_ble_eq_true rfl) dX16_keep_2_107 (fun H locs hP hS => ?_)
      cases hf
      rw [hQ]; exact p_lret hx hb hr hlk hK hP hS dX16_keep_2_110
    · have hf := ifT c6 hf
      exact J20  hf H locs hP hS ls (lv_sub hl [] rfl)
theorem kM_keep_2 (l : Launch) (D : va_G) (G : Nat → ClassId) (ad : Nat → Nat) (σ : Sto) {x1 : Int32} {r_ : Int64} {w_zI502 : Int32} {w_aI631 : Nat → Int32} {w_aI636 : Nat → Int32} {w_aL627 : Nat → Int64} {w_aL628 : Nat → Int64} {w_aL630 : Nat → Int64} {w_aL635 : Nat → Int64} {w_aL637 : Nat → Int64} (hf : mo_keep_2 (σ.1 502) (σ.1 522) (σ.1 523) (σ.2.2.1 611) (σ.2.2.1 615) (σ.2.2.1 618) (σ.2.2.1 620) (σ.2.2.1 621) (σ.2.2.1 624) (σ.2.2.1 625) (σ.2.2.1 631) (σ.2.2.1 636) (σ.2.2.2.1 626) (σ.2.2.2.1 627) (σ.2.2.2.1 628) (σ.2.2.2.1 630) (σ.2.2.2.1 634) (σ.2.2.2.1 635) (σ.2.2.2.1 637) x1 = some (r_, w_zI502, w_aI631, w_aI636, w_aL627, w_aL628, w_aL630, w_aL635, w_aL637)) : CtL l D clsA G dscM ad yX16_keep_2 (ws_ yX16_keep_2 cX16_keep_2 4 (Option.some Jvm.ClassFile.FieldType.long)) rmM_keep_2 [.ref (ad 500), .int x1] σ r_ (sgM_keep_2 σ w_zI502 w_aI631 w_aI636 w_aL627 w_aL628 w_aL630 w_aL635 w_aL637) :=
  p_ctL (by decide +kernel) (Nat.le_of_ble_eq_true rfl) (fun p e s m below meth c0 ls A E hP hK hA hS hl => wkM_keep_2 E hK hA hf rfl hP hS hl)
/-! edge(I)I -/
def sgM_edge (σ : Sto) (w0 : Int32) (w1 : Nat → Int32) (w2 : Nat → Int32) (w3 : Nat → Int32) (w4 : Nat → Int32) (w5 : Nat → Int64) (w6 : Nat → Int64) (w7 : Nat → Int64) (w8 : Nat → Int64) (w9 : Nat → Int64) : Sto := aL (aL (aL (aL (aL (aI (aI (aI (aI (zI σ 502 w0) 631 w1) 632 w2) 636 w3) 653 w4) 627 w5) 628 w6) 630 w7) 635 w8) 637 w9
theorem sgM_edge_self (σ : Sto) : sgM_edge σ (σ.1 502) (σ.2.2.1 631) (σ.2.2.1 632) (σ.2.2.1 636) (σ.2.2.1 653) (σ.2.2.2.1 627) (σ.2.2.2.1 628) (σ.2.2.2.1 630) (σ.2.2.2.1 635) (σ.2.2.2.1 637) = σ := by
  unfold sgM_edge
  simp only [zI_self, zL_self, aI_self, aL_self]
theorem sgM_edge_zI502 {σ : Sto} {w0 : Int32} {w1 : Nat → Int32} {w2 : Nat → Int32} {w3 : Nat → Int32} {w4 : Nat → Int32} {w5 : Nat → Int64} {w6 : Nat → Int64} {w7 : Nat → Int64} {w8 : Nat → Int64} {w9 : Nat → Int64} {g : Int32} : zI (sgM_edge σ w0 w1 w2 w3 w4 w5 w6 w7 w8 w9) 502 g = sgM_edge σ g w1 w2 w3 w4 w5 w6 w7 w8 w9 := (cm_zI_aL _ _ _ _ _).trans (congrArg (fun z => aL z 637 w9) ((cm_zI_aL _ _ _ _ _).trans (congrArg (fun z => aL z 635 w8) ((cm_zI_aL _ _ _ _ _).trans (congrArg (fun z => aL z 630 w7) ((cm_zI_aL _ _ _ _ _).trans (congrArg (fun z => aL z 628 w6) ((cm_zI_aL _ _ _ _ _).trans (congrArg (fun z => aL z 627 w5) ((cm_zI_aI _ _ _ _ _).trans (congrArg (fun z => aI z 653 w4) ((cm_zI_aI _ _ _ _ _).trans (congrArg (fun z => aI z 636 w3) ((cm_zI_aI _ _ _ _ _).trans (congrArg (fun z => aI z 632 w2) ((cm_zI_aI _ _ _ _ _).trans (congrArg (fun z => aI z 631 w1) (zI_zI _ 502 _ _))))))))))))))))))
theorem sgM_edge_aI631 {σ : Sto} {w0 : Int32} {w1 : Nat → Int32} {w2 : Nat → Int32} {w3 : Nat → Int32} {w4 : Nat → Int32} {w5 : Nat → Int64} {w6 : Nat → Int64} {w7 : Nat → Int64} {w8 : Nat → Int64} {w9 : Nat → Int64} {g : Nat → Int32} : aI (sgM_edge σ w0 w1 w2 w3 w4 w5 w6 w7 w8 w9) 631 g = sgM_edge σ w0 g w2 w3 w4 w5 w6 w7 w8 w9 := (cm_aI_aL _ _ _ _ _).trans (congrArg (fun z => aL z 637 w9) ((cm_aI_aL _ _ _ _ _).trans (congrArg (fun z => aL z 635 w8) ((cm_aI_aL _ _ _ _ _).trans (congrArg (fun z => aL z 630 w7) ((cm_aI_aL _ _ _ _ _).trans (congrArg (fun z => aL z 628 w6) ((cm_aI_aL _ _ _ _ _).trans (congrArg (fun z => aL z 627 w5) ((aI_comm _ (by decide) _ _).trans (congrArg (fun z => aI z 653 w4) ((aI_comm _ (by decide) _ _).trans (congrArg (fun z => aI z 636 w3) ((aI_comm _ (by decide) _ _).trans (congrArg (fun z => aI z 632 w2) (aI_aI _ 631 _ _))))))))))))))))
theorem sgM_edge_aI632 {σ : Sto} {w0 : Int32} {w1 : Nat → Int32} {w2 : Nat → Int32} {w3 : Nat → Int32} {w4 : Nat → Int32} {w5 : Nat → Int64} {w6 : Nat → Int64} {w7 : Nat → Int64} {w8 : Nat → Int64} {w9 : Nat → Int64} {g : Nat → Int32} : aI (sgM_edge σ w0 w1 w2 w3 w4 w5 w6 w7 w8 w9) 632 g = sgM_edge σ w0 w1 g w3 w4 w5 w6 w7 w8 w9 := (cm_aI_aL _ _ _ _ _).trans (congrArg (fun z => aL z 637 w9) ((cm_aI_aL _ _ _ _ _).trans (congrArg (fun z => aL z 635 w8) ((cm_aI_aL _ _ _ _ _).trans (congrArg (fun z => aL z 630 w7) ((cm_aI_aL _ _ _ _ _).trans (congrArg (fun z => aL z 628 w6) ((cm_aI_aL _ _ _ _ _).trans (congrArg (fun z => aL z 627 w5) ((aI_comm _ (by decide) _ _).trans (congrArg (fun z => aI z 653 w4) ((aI_comm _ (by decide) _ _).trans (congrArg (fun z => aI z 636 w3) (aI_aI _ 632 _ _))))))))))))))
theorem sgM_edge_aI636 {σ : Sto} {w0 : Int32} {w1 : Nat → Int32} {w2 : Nat → Int32} {w3 : Nat → Int32} {w4 : Nat → Int32} {w5 : Nat → Int64} {w6 : Nat → Int64} {w7 : Nat → Int64} {w8 : Nat → Int64} {w9 : Nat → Int64} {g : Nat → Int32} : aI (sgM_edge σ w0 w1 w2 w3 w4 w5 w6 w7 w8 w9) 636 g = sgM_edge σ w0 w1 w2 g w4 w5 w6 w7 w8 w9 := (cm_aI_aL _ _ _ _ _).trans (congrArg (fun z => aL z 637 w9) ((cm_aI_aL _ _ _ _ _).trans (congrArg (fun z => aL z 635 w8) ((cm_aI_aL _ _ _ _ _).trans (congrArg (fun z => aL z 630 w7) ((cm_aI_aL _ _ _ _ _).trans (congrArg (fun z => aL z 628 w6) ((cm_aI_aL _ _ _ _ _).trans (congrArg (fun z => aL z 627 w5) ((aI_comm _ (by decide) _ _).trans (congrArg (fun z => aI z 653 w4) (aI_aI _ 636 _ _))))))))))))
theorem sgM_edge_aI653 {σ : Sto} {w0 : Int32} {w1 : Nat → Int32} {w2 : Nat → Int32} {w3 : Nat → Int32} {w4 : Nat → Int32} {w5 : Nat → Int64} {w6 : Nat → Int64} {w7 : Nat → Int64} {w8 : Nat → Int64} {w9 : Nat → Int64} {g : Nat → Int32} : aI (sgM_edge σ w0 w1 w2 w3 w4 w5 w6 w7 w8 w9) 653 g = sgM_edge σ w0 w1 w2 w3 g w5 w6 w7 w8 w9 := (cm_aI_aL _ _ _ _ _).trans (congrArg (fun z => aL z 637 w9) ((cm_aI_aL _ _ _ _ _).trans (congrArg (fun z => aL z 635 w8) ((cm_aI_aL _ _ _ _ _).trans (congrArg (fun z => aL z 630 w7) ((cm_aI_aL _ _ _ _ _).trans (congrArg (fun z => aL z 628 w6) ((cm_aI_aL _ _ _ _ _).trans (congrArg (fun z => aL z 627 w5) (aI_aI _ 653 _ _))))))))))
theorem sgM_edge_aL627 {σ : Sto} {w0 : Int32} {w1 : Nat → Int32} {w2 : Nat → Int32} {w3 : Nat → Int32} {w4 : Nat → Int32} {w5 : Nat → Int64} {w6 : Nat → Int64} {w7 : Nat → Int64} {w8 : Nat → Int64} {w9 : Nat → Int64} {g : Nat → Int64} : aL (sgM_edge σ w0 w1 w2 w3 w4 w5 w6 w7 w8 w9) 627 g = sgM_edge σ w0 w1 w2 w3 w4 g w6 w7 w8 w9 := (aL_comm _ (by decide) _ _).trans (congrArg (fun z => aL z 637 w9) ((aL_comm _ (by decide) _ _).trans (congrArg (fun z => aL z 635 w8) ((aL_comm _ (by decide) _ _).trans (congrArg (fun z => aL z 630 w7) ((aL_comm _ (by decide) _ _).trans (congrArg (fun z => aL z 628 w6) (aL_aL _ 627 _ _))))))))
theorem sgM_edge_aL628 {σ : Sto} {w0 : Int32} {w1 : Nat → Int32} {w2 : Nat → Int32} {w3 : Nat → Int32} {w4 : Nat → Int32} {w5 : Nat → Int64} {w6 : Nat → Int64} {w7 : Nat → Int64} {w8 : Nat → Int64} {w9 : Nat → Int64} {g : Nat → Int64} : aL (sgM_edge σ w0 w1 w2 w3 w4 w5 w6 w7 w8 w9) 628 g = sgM_edge σ w0 w1 w2 w3 w4 w5 g w7 w8 w9 := (aL_comm _ (by decide) _ _).trans (congrArg (fun z => aL z 637 w9) ((aL_comm _ (by decide) _ _).trans (congrArg (fun z => aL z 635 w8) ((aL_comm _ (by decide) _ _).trans (congrArg (fun z => aL z 630 w7) (aL_aL _ 628 _ _))))))
theorem sgM_edge_aL630 {σ : Sto} {w0 : Int32} {w1 : Nat → Int32} {w2 : Nat → Int32} {w3 : Nat → Int32} {w4 : Nat → Int32} {w5 : Nat → Int64} {w6 : Nat → Int64} {w7 : Nat → Int64} {w8 : Nat → Int64} {w9 : Nat → Int64} {g : Nat → Int64} : aL (sgM_edge σ w0 w1 w2 w3 w4 w5 w6 w7 w8 w9) 630 g = sgM_edge σ w0 w1 w2 w3 w4 w5 w6 g w8 w9 := (aL_comm _ (by decide) _ _).trans (congrArg (fun z => aL z 637 w9) ((aL_comm _ (by decide) _ _).trans (congrArg (fun z => aL z 635 w8) (aL_aL _ 630 _ _))))
theorem sgM_edge_aL635 {σ : Sto} {w0 : Int32} {w1 : Nat → Int32} {w2 : Nat → Int32} {w3 : Nat → Int32} {w4 : Nat → Int32} {w5 : Nat → Int64} {w6 : Nat → Int64} {w7 : Nat → Int64} {w8 : Nat → Int64} {w9 : Nat → Int64} {g : Nat → Int64} : aL (sgM_edge σ w0 w1 w2 w3 w4 w5 w6 w7 w8 w9) 635 g = sgM_edge σ w0 w1 w2 w3 w4 w5 w6 w7 g w9 := (aL_comm _ (by decide) _ _).trans (congrArg (fun z => aL z 637 w9) (aL_aL _ 635 _ _))
theorem sgM_edge_aL637 {σ : Sto} {w0 : Int32} {w1 : Nat → Int32} {w2 : Nat → Int32} {w3 : Nat → Int32} {w4 : Nat → Int32} {w5 : Nat → Int64} {w6 : Nat → Int64} {w7 : Nat → Int64} {w8 : Nat → Int64} {w9 : Nat → Int64} {g : Nat → Int64} : aL (sgM_edge σ w0 w1 w2 w3 w4 w5 w6 w7 w8 w9) 637 g = sgM_edge σ w0 w1 w2 w3 w4 w5 w6 w7 w8 g := aL_aL _ 637 _ _
theorem sgM_edge_rzI502 {σ : Sto} {w0 : Int32} {w1 : Nat → Int32} {w2 : Nat → Int32} {w3 : Nat → Int32} {w4 : Nat → Int32} {w5 : Nat → Int64} {w6 : Nat → Int64} {w7 : Nat → Int64} {w8 : Nat → Int64} {w9 : Nat → Int64} : (sgM_edge σ w0 w1 w2 w3 w4 w5 w6 w7 w8 w9).1 502 = w0 := rfl
theorem sgM_edge_rzI522 {σ : Sto} {w0 : Int32} {w1 : Nat → Int32} {w2 : Nat → Int32} {w3 : Nat → Int32} {w4 : Nat → Int32} {w5 : Nat → Int64} {w6 : Nat → Int64} {w7 : Nat → Int64} {w8 : Nat → Int64} {w9 : Nat → Int64} : (sgM_edge σ w0 w1 w2 w3 w4 w5 w6 w7 w8 w9).1 522 = σ.1 522 := rfl
theorem sgM_edge_rzI523 {σ : Sto} {w0 : Int32} {w1 : Nat → Int32} {w2 : Nat → Int32} {w3 : Nat → Int32} {w4 : Nat → Int32} {w5 : Nat → Int64} {w6 : Nat → Int64} {w7 : Nat → Int64} {w8 : Nat → Int64} {w9 : Nat → Int64} : (sgM_edge σ w0 w1 w2 w3 w4 w5 w6 w7 w8 w9).1 523 = σ.1 523 := rfl
theorem sgM_edge_raI611 {σ : Sto} {w0 : Int32} {w1 : Nat → Int32} {w2 : Nat → Int32} {w3 : Nat → Int32} {w4 : Nat → Int32} {w5 : Nat → Int64} {w6 : Nat → Int64} {w7 : Nat → Int64} {w8 : Nat → Int64} {w9 : Nat → Int64} : (sgM_edge σ w0 w1 w2 w3 w4 w5 w6 w7 w8 w9).2.2.1 611 = σ.2.2.1 611 := rfl
theorem sgM_edge_raI614 {σ : Sto} {w0 : Int32} {w1 : Nat → Int32} {w2 : Nat → Int32} {w3 : Nat → Int32} {w4 : Nat → Int32} {w5 : Nat → Int64} {w6 : Nat → Int64} {w7 : Nat → Int64} {w8 : Nat → Int64} {w9 : Nat → Int64} : (sgM_edge σ w0 w1 w2 w3 w4 w5 w6 w7 w8 w9).2.2.1 614 = σ.2.2.1 614 := rfl
theorem sgM_edge_raI615 {σ : Sto} {w0 : Int32} {w1 : Nat → Int32} {w2 : Nat → Int32} {w3 : Nat → Int32} {w4 : Nat → Int32} {w5 : Nat → Int64} {w6 : Nat → Int64} {w7 : Nat → Int64} {w8 : Nat → Int64} {w9 : Nat → Int64} : (sgM_edge σ w0 w1 w2 w3 w4 w5 w6 w7 w8 w9).2.2.1 615 = σ.2.2.1 615 := rfl
theorem sgM_edge_raI616 {σ : Sto} {w0 : Int32} {w1 : Nat → Int32} {w2 : Nat → Int32} {w3 : Nat → Int32} {w4 : Nat → Int32} {w5 : Nat → Int64} {w6 : Nat → Int64} {w7 : Nat → Int64} {w8 : Nat → Int64} {w9 : Nat → Int64} : (sgM_edge σ w0 w1 w2 w3 w4 w5 w6 w7 w8 w9).2.2.1 616 = σ.2.2.1 616 := rfl
theorem sgM_edge_raI618 {σ : Sto} {w0 : Int32} {w1 : Nat → Int32} {w2 : Nat → Int32} {w3 : Nat → Int32} {w4 : Nat → Int32} {w5 : Nat → Int64} {w6 : Nat → Int64} {w7 : Nat → Int64} {w8 : Nat → Int64} {w9 : Nat → Int64} : (sgM_edge σ w0 w1 w2 w3 w4 w5 w6 w7 w8 w9).2.2.1 618 = σ.2.2.1 618 := rfl
theorem sgM_edge_raI620 {σ : Sto} {w0 : Int32} {w1 : Nat → Int32} {w2 : Nat → Int32} {w3 : Nat → Int32} {w4 : Nat → Int32} {w5 : Nat → Int64} {w6 : Nat → Int64} {w7 : Nat → Int64} {w8 : Nat → Int64} {w9 : Nat → Int64} : (sgM_edge σ w0 w1 w2 w3 w4 w5 w6 w7 w8 w9).2.2.1 620 = σ.2.2.1 620 := rfl
theorem sgM_edge_raI621 {σ : Sto} {w0 : Int32} {w1 : Nat → Int32} {w2 : Nat → Int32} {w3 : Nat → Int32} {w4 : Nat → Int32} {w5 : Nat → Int64} {w6 : Nat → Int64} {w7 : Nat → Int64} {w8 : Nat → Int64} {w9 : Nat → Int64} : (sgM_edge σ w0 w1 w2 w3 w4 w5 w6 w7 w8 w9).2.2.1 621 = σ.2.2.1 621 := rfl
theorem sgM_edge_raI624 {σ : Sto} {w0 : Int32} {w1 : Nat → Int32} {w2 : Nat → Int32} {w3 : Nat → Int32} {w4 : Nat → Int32} {w5 : Nat → Int64} {w6 : Nat → Int64} {w7 : Nat → Int64} {w8 : Nat → Int64} {w9 : Nat → Int64} : (sgM_edge σ w0 w1 w2 w3 w4 w5 w6 w7 w8 w9).2.2.1 624 = σ.2.2.1 624 := rfl
theorem sgM_edge_raI625 {σ : Sto} {w0 : Int32} {w1 : Nat → Int32} {w2 : Nat → Int32} {w3 : Nat → Int32} {w4 : Nat → Int32} {w5 : Nat → Int64} {w6 : Nat → Int64} {w7 : Nat → Int64} {w8 : Nat → Int64} {w9 : Nat → Int64} : (sgM_edge σ w0 w1 w2 w3 w4 w5 w6 w7 w8 w9).2.2.1 625 = σ.2.2.1 625 := rfl
theorem sgM_edge_raI631 {σ : Sto} {w0 : Int32} {w1 : Nat → Int32} {w2 : Nat → Int32} {w3 : Nat → Int32} {w4 : Nat → Int32} {w5 : Nat → Int64} {w6 : Nat → Int64} {w7 : Nat → Int64} {w8 : Nat → Int64} {w9 : Nat → Int64} : (sgM_edge σ w0 w1 w2 w3 w4 w5 w6 w7 w8 w9).2.2.1 631 = w1 := rfl
theorem sgM_edge_raI632 {σ : Sto} {w0 : Int32} {w1 : Nat → Int32} {w2 : Nat → Int32} {w3 : Nat → Int32} {w4 : Nat → Int32} {w5 : Nat → Int64} {w6 : Nat → Int64} {w7 : Nat → Int64} {w8 : Nat → Int64} {w9 : Nat → Int64} : (sgM_edge σ w0 w1 w2 w3 w4 w5 w6 w7 w8 w9).2.2.1 632 = w2 := rfl
theorem sgM_edge_raI636 {σ : Sto} {w0 : Int32} {w1 : Nat → Int32} {w2 : Nat → Int32} {w3 : Nat → Int32} {w4 : Nat → Int32} {w5 : Nat → Int64} {w6 : Nat → Int64} {w7 : Nat → Int64} {w8 : Nat → Int64} {w9 : Nat → Int64} : (sgM_edge σ w0 w1 w2 w3 w4 w5 w6 w7 w8 w9).2.2.1 636 = w3 := rfl
theorem sgM_edge_raI653 {σ : Sto} {w0 : Int32} {w1 : Nat → Int32} {w2 : Nat → Int32} {w3 : Nat → Int32} {w4 : Nat → Int32} {w5 : Nat → Int64} {w6 : Nat → Int64} {w7 : Nat → Int64} {w8 : Nat → Int64} {w9 : Nat → Int64} : (sgM_edge σ w0 w1 w2 w3 w4 w5 w6 w7 w8 w9).2.2.1 653 = w4 := rfl
theorem sgM_edge_raL626 {σ : Sto} {w0 : Int32} {w1 : Nat → Int32} {w2 : Nat → Int32} {w3 : Nat → Int32} {w4 : Nat → Int32} {w5 : Nat → Int64} {w6 : Nat → Int64} {w7 : Nat → Int64} {w8 : Nat → Int64} {w9 : Nat → Int64} : (sgM_edge σ w0 w1 w2 w3 w4 w5 w6 w7 w8 w9).2.2.2.1 626 = σ.2.2.2.1 626 := rfl
theorem sgM_edge_raL627 {σ : Sto} {w0 : Int32} {w1 : Nat → Int32} {w2 : Nat → Int32} {w3 : Nat → Int32} {w4 : Nat → Int32} {w5 : Nat → Int64} {w6 : Nat → Int64} {w7 : Nat → Int64} {w8 : Nat → Int64} {w9 : Nat → Int64} : (sgM_edge σ w0 w1 w2 w3 w4 w5 w6 w7 w8 w9).2.2.2.1 627 = w5 := rfl
theorem sgM_edge_raL628 {σ : Sto} {w0 : Int32} {w1 : Nat → Int32} {w2 : Nat → Int32} {w3 : Nat → Int32} {w4 : Nat → Int32} {w5 : Nat → Int64} {w6 : Nat → Int64} {w7 : Nat → Int64} {w8 : Nat → Int64} {w9 : Nat → Int64} : (sgM_edge σ w0 w1 w2 w3 w4 w5 w6 w7 w8 w9).2.2.2.1 628 = w6 := rfl
theorem sgM_edge_raL630 {σ : Sto} {w0 : Int32} {w1 : Nat → Int32} {w2 : Nat → Int32} {w3 : Nat → Int32} {w4 : Nat → Int32} {w5 : Nat → Int64} {w6 : Nat → Int64} {w7 : Nat → Int64} {w8 : Nat → Int64} {w9 : Nat → Int64} : (sgM_edge σ w0 w1 w2 w3 w4 w5 w6 w7 w8 w9).2.2.2.1 630 = w7 := rfl
theorem sgM_edge_raL634 {σ : Sto} {w0 : Int32} {w1 : Nat → Int32} {w2 : Nat → Int32} {w3 : Nat → Int32} {w4 : Nat → Int32} {w5 : Nat → Int64} {w6 : Nat → Int64} {w7 : Nat → Int64} {w8 : Nat → Int64} {w9 : Nat → Int64} : (sgM_edge σ w0 w1 w2 w3 w4 w5 w6 w7 w8 w9).2.2.2.1 634 = σ.2.2.2.1 634 := rfl
theorem sgM_edge_raL635 {σ : Sto} {w0 : Int32} {w1 : Nat → Int32} {w2 : Nat → Int32} {w3 : Nat → Int32} {w4 : Nat → Int32} {w5 : Nat → Int64} {w6 : Nat → Int64} {w7 : Nat → Int64} {w8 : Nat → Int64} {w9 : Nat → Int64} : (sgM_edge σ w0 w1 w2 w3 w4 w5 w6 w7 w8 w9).2.2.2.1 635 = w8 := rfl
theorem sgM_edge_raL637 {σ : Sto} {w0 : Int32} {w1 : Nat → Int32} {w2 : Nat → Int32} {w3 : Nat → Int32} {w4 : Nat → Int32} {w5 : Nat → Int64} {w6 : Nat → Int64} {w7 : Nat → Int64} {w8 : Nat → Int64} {w9 : Nat → Int64} : (sgM_edge σ w0 w1 w2 w3 w4 w5 w6 w7 w8 w9).2.2.2.1 637 = w9 := rfl
abbrev rmM_edge : Room := { frames := 7, cells := 0, slots := 0, locals := 176 }
set_option maxHeartbeats 4000000 in
theorem wkM_edge {x1 : Int32} {r_ : Int32} {w_zI502 : Int32} {w_aI631 : Nat → Int32} {w_aI632 : Nat → Int32} {w_aI636 : Nat → Int32} {w_aI653 : Nat → Int32} {w_aL627 : Nat → Int64} {w_aL628 : Nat → Int64} {w_aL630 : Nat → Int64} {w_aL635 : Nat → Int64} {w_aL637 : Nat → Int64} (E : EN p s m args meth c0 RX16 cX16_edge 7 (Option.some Jvm.ClassFile.FieldType.int)) (hK : KK D clsA G s) (hA : ∀ q, PA dscM ad s.heap.size q → A q) (hf : mo_edge (σ.1 502) (σ.1 522) (σ.1 523) (σ.2.2.1 611) (σ.2.2.1 614) (σ.2.2.1 615) (σ.2.2.1 616) (σ.2.2.1 618) (σ.2.2.1 620) (σ.2.2.1 621) (σ.2.2.1 624) (σ.2.2.1 625) (σ.2.2.1 631) (σ.2.2.1 632) (σ.2.2.1 636) (σ.2.2.1 653) (σ.2.2.2.1 626) (σ.2.2.2.1 627) (σ.2.2.2.1 628) (σ.2.2.2.1 630) (σ.2.2.2.1 634) (σ.2.2.2.1 635) (σ.2.2.2.1 637) x1 = some (r_, w_zI502, w_aI631, w_aI632, w_aI636, w_aI653, w_aL627, w_aL628, w_aL630, w_aL635, w_aL637)) (hQ : Q = MQ below (va_Qi (fun x (_ : Unit) => x = r_) (fun _ t => PM D G ad (sgM_edge σ w_zI502 w_aI631 w_aI632 w_aI636 w_aI653 w_aL627 w_aL628 w_aL630 w_aL635 w_aL637) t.heap ∧ KK D clsA G t) A) args s 0 0 A) (hP : PM D G ad σ H) (hS : va_S A s.heap H locs) (hl : lv_has ls 7 [(0, .ref (ad 500)), (1, .int x1)]) : W p l e rmM_edge s m args below meth c0 H locs 0 0 Q (F0 m 0 ls []) := by
  obtain ⟨⟨hx, hb, hml, hown, hts⟩, hr, hlk⟩ := id E
  have hP := hP.to (sgM_edge_self σ).symm
  unfold mo_edge at hf
  refine lv_aload_n hx hb dX16_edge_0 rfl (lv_at hl 0 rfl) ?_
  refine lv_iconst hx hb dX16_edge_1 ic_0 ?_
  refine uM_2 E hK hP hS (hA _ (PA_c dM_500)) sgM_edge_zI502 dX16_edge_2 (fun H locs hP hS => ?_)
  refine lv_aload_n hx hb dX16_edge_5 rfl (lv_at hl 0 rfl) ?_
  refine lv_iload_n hx hb dX16_edge_6 rfl (lv_at hl 1 rfl) ?_
  obtain ⟨v1, u2, hf⟩ := bdP hf
  refine cM_isDoubtful E hK hP hS hA sgM_edge_raI611 u2 ⟨Nat.le_of_ble_eq_true rfl, Nat.le_of_ble_eq_true rfl⟩ ⟨Nat.zero_le _, Nat.zero_le _⟩ hl.1 (Nat.le_of_ble_eq_true rfl) dX16_edge_7 (fun H locs hP hS => ?_)
  refine lv_if_eq (tgt := 39) hx hb dX16_edge_10 (by decide) (fun c3 => ?_) (fun c3 => ?_)
  · have hf := ifT c3 hf
    refine lv_iconst hx hb dX16_edge_39 ic_m1 ?_
    cases hf
    rw [hQ]; exact p_iret hx hb hr hlk hK hP hS dX16_edge_40
  · have hf := ifF c3 hf
    refine lv_aload_n hx hb dX16_edge_13 rfl (lv_at hl 0 rfl) ?_
    refine gM_15 E hK hP dX16_edge_14 ?_
    refine lv_bipush hx hb dX16_edge_17 bp_7 ?_
    refine lv_aload_n hx hb dX16_edge_19 rfl (lv_at hl 0 rfl) ?_
    refine gM_16 E hK hP dX16_edge_20 ?_
    refine lv_iload_n hx hb dX16_edge_23 rfl (lv_at hl 1 rfl) ?_
    obtain ⟨v4, hv4, hf⟩ := bdP hf
    refine p_iald hx hb hK hP dM_616 sgM_edge_raI616 hv4 dX16_edge_24 ?_
    refine lv_imul hx hb dX16_edge_25 ?_
    refine lv_iconst hx hb dX16_edge_26 ic_3 ?_
    refine lv_iadd hx hb dX16_edge_27 ?_
    obtain ⟨v5, hv5, hf⟩ := bdP hf
    refine p_iald hx hb hK hP dM_615 sgM_edge_raI615 hv5 dX16_edge_28 ?_
    refine lv_if_eq (tgt := 39) hx hb dX16_edge_29 (by decide) (fun c6 => ?_) (fun c6 => ?_)
    · have hf := ifT c6 hf
      refine lv_iconst hx hb dX16_edge_39 ic_m1 ?_
      cases hf
      rw [hQ]; exact p_iret hx hb hr hlk hK hP hS dX16_edge_40
    · have hf := ifF c6 hf
      refine lv_aload_n hx hb dX16_edge_32 rfl (lv_at hl 0 rfl) ?_
      obtain ⟨v7, u8, hf⟩ := bdP hf
      refine cM_hasEnds E hK hP hS hA sgM_edge_raI611 u8 ⟨Nat.le_of_ble_eq_true rfl, Nat.le_of_ble_eq_true rfl⟩ ⟨Nat.zero_le _, Nat.zero_le _⟩ hl.1 (Nat.le_of_ble_eq_true rfl) dX16_edge_33 (fun H locs hP hS => ?_)
      refine lv_if_ne (tgt := 41) hx hb dX16_edge_36 (by decide) (fun c9 => ?_) (fun c9 => ?_)
      · have hf := ifF c9 hf
        refine lv_aload_n hx hb dX16_edge_41 rfl (lv_at hl 0 rfl) ?_
        obtain ⟨⟨a10, a11, a12, a13, a14, a15⟩, u16, hf⟩ := bdP hf
        dsimp only at hf
        refine cM_layBest E hK hP hS hA sgM_edge_rzI523 sgM_edge_raI611 sgM_edge_raI615 sgM_edge_raI618 sgM_edge_raI620 sgM_edge_raI621 sgM_edge_raI624 sgM_edge_raI625 sgM_edge_raI631 sgM_edge_raI632 sgM_edge_raI636 sgM_edge_raL628 sgM_edge_raL630 sgM_edge_raL634 sgM_edge_raL635 sgM_edge_raL637 u16 ⟨Nat.le_of_ble_eq_true rfl, Nat.le_of_ble_eq_true rfl⟩ ⟨Nat.zero_le _, Nat.zero_le _⟩ hl.1 (Nat.le_of_ble_eq_true rfl) dX16_edge_42 (fun H locs hP hS => ?_)
        rw [sgM_edge_aI631, sgM_edge_aI632, sgM_edge_aI636, sgM_edge_aL630, sgM_edge_aL635, sgM_edge_aL637] at hP
        refine lv_aload_n hx hb dX16_edge_45 rfl (lv_at hl 0 rfl) ?_
        refine gM_11 E hK hP dX16_edge_46 ?_
        refine lv_bipush hx hb dX16_edge_49 bp_6 ?_
        obtain ⟨v17, hv17, hf⟩ := bdP hf
        refine p_iald hx hb hK hP dM_611 sgM_edge_raI611 hv17 dX16_edge_51 ?_
        refine lv_istore_n (lv' := [(2, .int v17), (0, .ref (ad 500)), (1, .int x1)]) hx hb dX16_edge_52 rfl hl (by decide) rfl (fun ls hl => ?_)
        refine lv_iconst hx hb dX16_edge_53 ic_0 ?_
        refine lv_istore_n (lv' := [(3, .int 0), (2, .int v17), (0, .ref (ad 500)), (1, .int x1)]) hx hb dX16_edge_54 rfl hl (by decide) rfl (fun ls hl => ?_)
        have LP55 : ∀ (st55 : Int32 × (Nat → Int32)) (ex55 : ((Nat → Int32))), loop (mo_edge_L55 (σ.1 522) (σ.2.2.1 611) (σ.2.2.1 620) (σ.2.2.1 624) (σ.2.2.2.1 628) a10 v17) st55 = some ex55 → ∀ (H : Heap) (locs : List Loc), PM D G ad (sgM_edge σ 0 a10 a11 a12 (st55.2) (σ.2.2.2.1 627) (σ.2.2.2.1 628) a13 a14 a15) H → va_S A s.heap H locs → ∀ (ls : Array Slot), lv_has ls 7 [(0, .ref (ad 500)), (1, .int x1), (2, .int v17), (3, .int (st55.1))] → (∀ (a35 : Nat → Int32), ex55 = a35 → ∀ (H : Heap) (locs : List Loc), PM D G ad (sgM_edge σ 0 a10 a11 a12 a35 (σ.2.2.2.1 627) (σ.2.2.2.1 628) a13 a14 a15) H → va_S A s.heap H locs → ∀ (ls : Array Slot), lv_has ls 7 [(0, .ref (ad 500)), (1, .int x1), (2, .int v17)] → W p l e rmM_edge s m args below meth c0 H locs 0 0 Q (F0 m 129 ls [])) → W p l e rmM_edge s m args below meth c0 H locs 0 0 Q (F0 m 55 ls []) := by
          refine loop_P (fun st55 ex55 o55 hf ih55 hx55 => ?_)
          obtain ⟨y18, a19⟩ := st55
          intro H locs (hP : PM D G ad (sgM_edge σ 0 a10 a11 a12 a19 (σ.2.2.2.1 627) (σ.2.2.2.1 628) a13 a14 a15) H) hS ls (hl : lv_has ls 7 [(0, .ref (ad 500)), (1, .int x1), (2, .int v17), (3, .int y18)]) KE55_0
          dsimp only [mo_edge_L55] at hf
          refine lv_iload_n hx hb dX16_edge_55 rfl (lv_at hl 3 rfl) ?_
          refine lv_aload_n hx hb dX16_edge_56 rfl (lv_at hl 0 rfl) ?_
          refine gM_22 (v := (σ.1 522)) E hK hP sgM_edge_rzI522 dX16_edge_57 ?_
          refine lv_icmp_ge (tgt := 129) hx hb dX16_edge_60 (by decide) (fun c20 => ?_) (fun c20 => ?_)
          · have hf := ifT c20 hf
            exact KE55_0 _ (hx55 _ (Option.some.inj hf).symm).symm H locs hP hS ls (lv_sub hl [0, 1, 2] rfl)
          · have hf := ifF c20 hf
            refine lv_aload_n hx hb dX16_edge_63 rfl (lv_at hl 0 rfl) ?_
            refine gM_53 E hK hP dX16_edge_64 ?_
            refine lv_iload_n hx hb dX16_edge_67 rfl (lv_at hl 3 rfl) ?_
            refine lv_iload_n hx hb dX16_edge_68 rfl (lv_at hl 3 rfl) ?_
            refine lv_aload_n hx hb dX16_edge_69 rfl (lv_at hl 0 rfl) ?_
            refine gM_20 E hK hP dX16_edge_70 ?_
            refine lv_iload_n hx hb dX16_edge_73 rfl (lv_at hl 2 rfl) ?_
            obtain ⟨v21, hv21, hf⟩ := bdP hf
            refine p_iald hx hb hK hP dM_620 sgM_edge_raI620 hv21 dX16_edge_74 ?_
            refine lv_iconst hx hb dX16_edge_75 ic_m1 ?_
            refine lv_ixor hx hb dX16_edge_76 ?_
            refine lv_iand hx hb dX16_edge_77 ?_
            have J122 : ∀ (k22 : Int32) (k23 : Int32), mo_edge_J122 y18 a19 k22 k23 = some o55 → ∀ (H : Heap) (locs : List Loc), PM D G ad (sgM_edge σ 0 a10 a11 a12 a19 (σ.2.2.2.1 627) (σ.2.2.2.1 628) a13 a14 a15) H → va_S A s.heap H locs → ∀ (ls : Array Slot), lv_has ls 7 [(0, .ref (ad 500)), (1, .int x1), (2, .int v17), (3, .int y18)] → W p l e rmM_edge s m args below meth c0 H locs 0 0 Q (F0 m 122 ls [.int k22, .int k23, .ref (ad 653)]) := by
              intro k22 k23 hf H locs hP hS ls hl
              unfold mo_edge_J122 at hf
              obtain ⟨a24, ha24, hf⟩ := bdP hf
              refine p_iast hx hb hK hP hS (hA _ (PA_c dM_653)) dM_653 sgM_edge_raI653 ha24 sgM_edge_aI653 dX16_edge_122 (fun H locs hP hS => ?_)
              obtain ⟨v25, hv25, hf⟩ := bdP hf
              refine lv_iinc (v := v25) (lv' := [(3, .int v25), (0, .ref (ad 500)), (1, .int x1), (2, .int v17)]) hx hb dX16_edge_123 hl (k := 3) rfl (Option.some.inj hv25) (by decide) rfl (fun ls hl => ?_)
              refine lv_goto (tgt := 55) hx hb dX16_edge_126 (by decide) ?_
              exact ih55 _ (Option.some.inj hf).symm H locs hP hS ls (lv_sub hl [1, 2, 3, 0] rfl) KE55_0
            have J121 : ∀ (k26 : Int32), mo_edge_J121 y18 a19 k26 = some o55 → ∀ (H : Heap) (locs : List Loc), PM D G ad (sgM_edge σ 0 a10 a11 a12 a19 (σ.2.2.2.1 627) (σ.2.2.2.1 628) a13 a14 a15) H → va_S A s.heap H locs → ∀ (ls : Array Slot), lv_has ls 7 [(0, .ref (ad 500)), (1, .int x1), (2, .int v17), (3, .int y18)] → W p l e rmM_edge s m args below meth c0 H locs 0 0 Q (F0 m 121 ls [.int k26, .ref (ad 653)]) := by
              intro k26 hf H locs hP hS ls hl
              unfold mo_edge_J121 at hf
              refine lv_iconst hx hb dX16_edge_121 ic_0 ?_
              exact J122 0 k26 hf H locs hP hS ls (lv_sub hl [0, 1, 2, 3] rfl)
            refine lv_if_ne (tgt := 121) hx hb dX16_edge_78 (by decide) (fun c27 => ?_) (fun c27 => ?_)
            · have hf := ifF c27 hf
              exact J121 y18 hf H locs hP hS ls (lv_sub hl [0, 1, 2, 3] rfl)
            · have hf := ifT c27 hf
              refine lv_aload_n hx hb dX16_edge_81 rfl (lv_at hl 0 rfl) ?_
              refine gM_28 E hK hP dX16_edge_82 ?_
              refine lv_aload_n hx hb dX16_edge_85 rfl (lv_at hl 0 rfl) ?_
              refine lv_iload_n hx hb dX16_edge_86 rfl (lv_at hl 2 rfl) ?_
              refine lv_iconst hx hb dX16_edge_87 ic_0 ?_
              refine lv_iload_n hx hb dX16_edge_88 rfl (lv_at hl 3 rfl) ?_
              obtain ⟨v28, u29, hf⟩ := bdP hf
              refine cM_learns E hK hP hS hA sgM_edge_raI611 sgM_edge_raI620 sgM_edge_raI624 u29 ⟨Nat.le_of_ble_eq_true rfl, Nat.le_of_ble_eq_true rfl⟩ ⟨Nat.zero_le _, Nat.zero_le _⟩ hl.1 (Nat.le_of_ble_eq_true rfl) dX16_edge_89 (fun H locs hP hS => ?_)
              obtain ⟨v30, hv30, hf⟩ := bdP hf
              refine p_lald hx hb hK hP dM_628 sgM_edge_raL628 hv30 dX16_edge_92 ?_
              refine lv_lconst hx hb dX16_edge_93 lc_0 ?_
              refine W.lcmp hx hb dX16_edge_94 ?_
              refine lv_if_le (tgt := 121) hx hb dX16_edge_95 (by decide) (fun c31 => ?_) (fun c31 => ?_)
              · have hf := ifT ((lgc_le _ _).mp c31) hf
                exact J121 y18 hf H locs hP hS ls (lv_sub hl [0, 1, 2, 3] rfl)
              · have hf := ifF (mt (lgc_le _ _).mpr c31) hf
                refine lv_aload_n hx hb dX16_edge_98 rfl (lv_at hl 0 rfl) ?_
                refine gM_31 E hK hP dX16_edge_99 ?_
                refine lv_bipush hx hb dX16_edge_102 bp_10 ?_
                refine lv_aload_n hx hb dX16_edge_104 rfl (lv_at hl 0 rfl) ?_
                refine lv_iload_n hx hb dX16_edge_105 rfl (lv_at hl 2 rfl) ?_
                refine lv_iconst hx hb dX16_edge_106 ic_0 ?_
                refine lv_iload_n hx hb dX16_edge_107 rfl (lv_at hl 3 rfl) ?_
                obtain ⟨v32, u33, hf⟩ := bdP hf
                refine cM_learns E hK hP hS hA sgM_edge_raI611 sgM_edge_raI620 sgM_edge_raI624 u33 ⟨Nat.le_of_ble_eq_true rfl, Nat.le_of_ble_eq_true rfl⟩ ⟨Nat.zero_le _, Nat.zero_le _⟩ hl.1 (Nat.le_of_ble_eq_true rfl) dX16_edge_108 (fun H locs hP hS => ?_)
                refine lv_imul hx hb dX16_edge_111 ?_
                refine lv_iload_n hx hb dX16_edge_112 rfl (lv_at hl 2 rfl) ?_
                refine lv_iadd hx hb dX16_edge_113 ?_
                obtain ⟨v34, hv34, hf⟩ := bdP hf
                refine p_iald hx hb hK hP dM_631 sgM_edge_raI631 hv34 dX16_edge_114 ?_
                refine lv_bipush hx hb dX16_edge_115 bp_10 ?_
                refine lv_iadd hx hb dX16_edge_117 ?_
                refine lv_goto (tgt := 122) hx hb dX16_edge_118 (by decide) ?_
                exact J122 (v34 + 10) y18 hf H locs hP hS ls (lv_sub hl [0, 1, 2, 3] rfl)
        obtain ⟨ex55, hlp55, hf⟩ := bdP hf
        refine LP55 (0, (σ.2.2.1 653)) ex55 hlp55 H locs hP hS ls (lv_sub hl [2, 3, 1, 0] rfl) ?_
        intro a35 hex55 H locs hP hS ls hl
        subst ex55
        refine lv_aload_n hx hb dX16_edge_129 rfl (lv_at hl 0 rfl) ?_
        refine gM_15 E hK hP dX16_edge_130 ?_
        refine lv_bipush hx hb dX16_edge_133 bp_7 ?_
        refine lv_aload_n hx hb dX16_edge_135 rfl (lv_at hl 0 rfl) ?_
        refine gM_16 E hK hP dX16_edge_136 ?_
        refine lv_iload_n hx hb dX16_edge_139 rfl (lv_at hl 1 rfl) ?_
        obtain ⟨v36, hv36, hf⟩ := bdP hf
        refine p_iald hx hb hK hP dM_616 sgM_edge_raI616 hv36 dX16_edge_140 ?_
        refine lv_imul hx hb dX16_edge_141 ?_
        refine lv_iconst hx hb dX16_edge_142 ic_3 ?_
        refine lv_iadd hx hb dX16_edge_143 ?_
        obtain ⟨v37, hv37, hf⟩ := bdP hf
        refine p_iald hx hb hK hP dM_615 sgM_edge_raI615 hv37 dX16_edge_144 ?_
        refine lv_iconst hx hb dX16_edge_145 ic_1 ?_
        refine lv_iadd hx hb dX16_edge_146 ?_
        obtain ⟨v38, hv38, hf⟩ := bdP hf
        refine nm_i (Option.some.inj hv38) ?_
        refine lv_istore_n (lv' := [(3, .int v38), (0, .ref (ad 500)), (1, .int x1), (2, .int v17)]) hx hb dX16_edge_147 rfl hl (by decide) rfl (fun ls hl => ?_)
        have LP148 : ∀ (st148 : Int32 × (Nat → Int32) × (Nat → Int32) × (Nat → Int64) × (Nat → Int64) × (Nat → Int64) × (Nat → Int64) × (Nat → Int64)) (ex148 : (Int32 × (Nat → Int32) × (Nat → Int32) × (Nat → Int64) × (Nat → Int64) × (Nat → Int64) × (Nat → Int64) × (Nat → Int64)) ⊕ ((Nat → Int32) × (Nat → Int32) × (Nat → Int64) × (Nat → Int64) × (Nat → Int64) × (Nat → Int64) × (Nat → Int64))), loop (mo_edge_L148 (σ.1 522) (σ.1 523) (σ.2.2.1 611) (σ.2.2.1 614) (σ.2.2.1 615) (σ.2.2.1 616) (σ.2.2.1 618) (σ.2.2.1 620) (σ.2.2.1 621) (σ.2.2.1 624) (σ.2.2.1 625) (σ.2.2.2.1 626) (σ.2.2.2.1 634) x1 v17 a35) st148 = some ex148 → ∀ (H : Heap) (locs : List Loc), PM D G ad (sgM_edge σ 0 (st148.2.1) a11 (st148.2.2.1) a35 (st148.2.2.2.1) (st148.2.2.2.2.1) (st148.2.2.2.2.2.1) (st148.2.2.2.2.2.2.1) (st148.2.2.2.2.2.2.2)) H → va_S A s.heap H locs → ∀ (ls : Array Slot), lv_has ls 7 [(0, .ref (ad 500)), (1, .int x1), (2, .int v17), (3, .int (st148.1))] → (∀ (y78 : Int32) (a79 : Nat → Int32) (a80 : Nat → Int32) (a81 : Nat → Int64) (a82 : Nat → Int64) (a83 : Nat → Int64) (a84 : Nat → Int64) (a85 : Nat → Int64), ex148 = (.inl ((y78, a79, a80, a81, a82, a83, a84, a85))) → ∀ (H : Heap) (locs : List Loc), PM D G ad (sgM_edge σ 0 a79 a11 a80 a35 a81 a82 a83 a84 a85) H → va_S A s.heap H locs → ∀ (ls : Array Slot), lv_has ls 7 [(3, .int y78)] → W p l e rmM_edge s m args below meth c0 H locs 0 0 Q (F0 m 269 ls [])) → (∀ (a86 : Nat → Int32) (a87 : Nat → Int32) (a88 : Nat → Int64) (a89 : Nat → Int64) (a90 : Nat → Int64) (a91 : Nat → Int64) (a92 : Nat → Int64), ex148 = (.inr (a86, a87, a88, a89, a90, a91, a92)) → ∀ (H : Heap) (locs : List Loc), PM D G ad (sgM_edge σ 0 a86 a11 a87 a35 a88 a89 a90 a91 a92) H → va_S A s.heap H locs → ∀ (ls : Array Slot), lv_has ls 7 [] → W p l e rmM_edge s m args below meth c0 H locs 0 0 Q (F0 m 277 ls [])) → W p l e rmM_edge s m args below meth c0 H locs 0 0 Q (F0 m 148 ls []) := by
          refine loop_P (fun st148 ex148 o148 hf ih148 hx148 => ?_)
          obtain ⟨y39, a40, a41, a42, a43, a44, a45, a46⟩ := st148
          intro H locs (hP : PM D G ad (sgM_edge σ 0 a40 a11 a41 a35 a42 a43 a44 a45 a46) H) hS ls (hl : lv_has ls 7 [(0, .ref (ad 500)), (1, .int x1), (2, .int v17), (3, .int y39)]) KE148_0 KE148_1
          dsimp only [mo_edge_L148] at hf
          refine lv_iload_n hx hb dX16_edge_148 rfl (lv_at hl 3 rfl) ?_
          refine lv_bipush hx hb dX16_edge_149 bp_11 ?_
          refine lv_icmp_ge (tgt := 277) hx hb dX16_edge_151 (by decide) (fun c47 => ?_) (fun c47 => ?_)
          · have hf := ifT c47 hf
            exact KE148_1 _ _ _ _ _ _ _ (hx148 _ (Option.some.inj hf).symm).symm H locs hP hS ls (lv_sub hl [] rfl)
          · have hf := ifF c47 hf
            refine lv_aload_n hx hb dX16_edge_154 rfl (lv_at hl 0 rfl) ?_
            refine lv_iload_n hx hb dX16_edge_155 rfl (lv_at hl 1 rfl) ?_
            refine lv_iload_n hx hb dX16_edge_156 rfl (lv_at hl 3 rfl) ?_
            obtain ⟨⟨a48, a49⟩, u50, hf⟩ := bdP hf
            dsimp only at hf
            refine cM_layUse E hK hP hS hA sgM_edge_rzI522 sgM_edge_rzI523 sgM_edge_raI611 sgM_edge_raI614 sgM_edge_raI615 sgM_edge_raI616 sgM_edge_raI624 sgM_edge_raI625 sgM_edge_raL627 sgM_edge_raL628 u50 ⟨Nat.le_of_ble_eq_true rfl, Nat.le_of_ble_eq_true rfl⟩ ⟨Nat.zero_le _, Nat.zero_le _⟩ hl.1 (Nat.le_of_ble_eq_true rfl) dX16_edge_157 (fun H locs hP hS => ?_)
            rw [sgM_edge_aL627, sgM_edge_aL628] at hP
            refine lv_aload_n hx hb dX16_edge_160 rfl (lv_at hl 0 rfl) ?_
            refine lv_iconst hx hb dX16_edge_161 ic_3 ?_
            refine lv_iconst hx hb dX16_edge_162 ic_1 ?_
            obtain ⟨⟨a51, a52, a53, a54, a55⟩, u56, hf⟩ := bdP hf
            dsimp only at hf
            refine cM_layValues E hK hP hS hA sgM_edge_rzI523 sgM_edge_raI611 sgM_edge_raI615 sgM_edge_raI618 sgM_edge_raI620 sgM_edge_raI621 sgM_edge_raI624 sgM_edge_raI625 sgM_edge_raI631 sgM_edge_raI636 sgM_edge_raL628 sgM_edge_raL630 sgM_edge_raL634 sgM_edge_raL635 sgM_edge_raL637 u56 ⟨Nat.le_of_ble_eq_true rfl, Nat.le_of_ble_eq_true rfl⟩ ⟨Nat.zero_le _, Nat.zero_le _⟩ hl.1 (Nat.le_of_ble_eq_true rfl) dX16_edge_163 (fun H locs hP hS => ?_)
            rw [sgM_edge_aI631, sgM_edge_aI636, sgM_edge_aL630, sgM_edge_aL635, sgM_edge_aL637] at hP
            refine lv_iconst hx hb dX16_edge_166 ic_0 ?_
            refine lv_istore (lv' := [(4, .int 0), (0, .ref (ad 500)), (1, .int x1), (2, .int v17), (3, .int y39)]) hx hb dX16_edge_167 hl (by decide) rfl (fun ls hl => ?_)
            refine lv_iconst hx hb dX16_edge_169 ic_0 ?_
            refine lv_istore (lv' := [(5, .int 0), (4, .int 0), (0, .ref (ad 500)), (1, .int x1), (2, .int v17), (3, .int y39)]) hx hb dX16_edge_170 hl (by decide) rfl (fun ls hl => ?_)
            have LP172 : ∀ (st172 : Int32 × Int32) (ex172 : (Int32)), loop (mo_edge_L172 (σ.1 522) (σ.2.2.1 611) (σ.2.2.1 620) (σ.2.2.1 624) v17 a35 a49 a51) st172 = some ex172 → ∀ (H : Heap) (locs : List Loc), PM D G ad (sgM_edge σ 0 a51 a11 a52 a35 a48 a49 a53 a54 a55) H → va_S A s.heap H locs → ∀ (ls : Array Slot), lv_has ls 7 [(0, .ref (ad 500)), (1, .int x1), (2, .int v17), (3, .int y39), (4, .int (st172.1)), (5, .int (st172.2))] → (∀ (y72 : Int32), ex172 = y72 → ∀ (H : Heap) (locs : List Loc), PM D G ad (sgM_edge σ 0 a51 a11 a52 a35 a48 a49 a53 a54 a55) H → va_S A s.heap H locs → ∀ (ls : Array Slot), lv_has ls 7 [(0, .ref (ad 500)), (1, .int x1), (2, .int v17), (3, .int y39), (4, .int y72)] → W p l e rmM_edge s m args below meth c0 H locs 0 0 Q (F0 m 260 ls [])) → W p l e rmM_edge s m args below meth c0 H locs 0 0 Q (F0 m 172 ls []) := by
              refine loop_P (fun st172 ex172 o172 hf ih172 hx172 => ?_)
              obtain ⟨y57, y58⟩ := st172
              intro H locs (hP : PM D G ad (sgM_edge σ 0 a51 a11 a52 a35 a48 a49 a53 a54 a55) H) hS ls (hl : lv_has ls 7 [(0, .ref (ad 500)), (1, .int x1), (2, .int v17), (3, .int y39), (4, .int y57), (5, .int y58)]) KE172_0
              dsimp only [mo_edge_L172] at hf
              refine lv_iload hx hb dX16_edge_172 (lv_at hl 5 rfl) ?_
              refine lv_aload_n hx hb dX16_edge_174 rfl (lv_at hl 0 rfl) ?_
              refine gM_22 (v := (σ.1 522)) E hK hP sgM_edge_rzI522 dX16_edge_175 ?_
              refine lv_icmp_ge (tgt := 260) hx hb dX16_edge_178 (by decide) (fun c59 => ?_) (fun c59 => ?_)
              · have hf := ifT c59 hf
                exact KE172_0 _ (hx172 _ (Option.some.inj hf).symm).symm H locs hP hS ls (lv_sub hl [0, 1, 2, 3, 4] rfl)
              · have hf := ifF c59 hf
                refine lv_aload_n hx hb dX16_edge_181 rfl (lv_at hl 0 rfl) ?_
                refine lv_iload_n hx hb dX16_edge_182 rfl (lv_at hl 2 rfl) ?_
                refine lv_iconst hx hb dX16_edge_183 ic_0 ?_
                refine lv_iload hx hb dX16_edge_184 (lv_at hl 5 rfl) ?_
                obtain ⟨v60, u61, hf⟩ := bdP hf
                refine cM_learns E hK hP hS hA sgM_edge_raI611 sgM_edge_raI620 sgM_edge_raI624 u61 ⟨Nat.le_of_ble_eq_true rfl, Nat.le_of_ble_eq_true rfl⟩ ⟨Nat.zero_le _, Nat.zero_le _⟩ hl.1 (Nat.le_of_ble_eq_true rfl) dX16_edge_186 (fun H locs hP hS => ?_)
                refine lv_istore (lv' := [(6, .int v60), (0, .ref (ad 500)), (1, .int x1), (2, .int v17), (3, .int y39), (4, .int y57), (5, .int y58)]) hx hb dX16_edge_189 hl (by decide) rfl (fun ls hl => ?_)
                refine lv_iload hx hb dX16_edge_191 (lv_at hl 5 rfl) ?_
                have J252 : ∀ (k62 : Int32), mo_edge_J252 y58 k62 = some o172 → ∀ (H : Heap) (locs : List Loc), PM D G ad (sgM_edge σ 0 a51 a11 a52 a35 a48 a49 a53 a54 a55) H → va_S A s.heap H locs → ∀ (ls : Array Slot), lv_has ls 7 [(0, .ref (ad 500)), (1, .int x1), (2, .int v17), (3, .int y39), (5, .int y58)] → W p l e rmM_edge s m args below meth c0 H locs 0 0 Q (F0 m 252 ls [.int k62]) := by
                  intro k62 hf H locs hP hS ls hl
                  unfold mo_edge_J252 at hf
                  refine lv_istore (lv' := [(4, .int k62), (0, .ref (ad 500)), (1, .int x1), (2, .int v17), (3, .int y39), (5, .int y58)]) hx hb dX16_edge_252 hl (by decide) rfl (fun ls hl => ?_)
                  obtain ⟨v63, hv63, hf⟩ := bdP hf
                  refine lv_iinc (v := v63) (lv' := [(5, .int v63), (4, .int k62), (0, .ref (ad 500)), (1, .int x1), (2, .int v17), (3, .int y39)]) hx hb dX16_edge_254 hl (k := 5) rfl (Option.some.inj hv63) (by decide) rfl (fun ls hl => ?_)
                  refine lv_goto (tgt := 172) hx hb dX16_edge_257 (by decide) ?_
                  exact ih172 _ (Option.some.inj hf).symm H locs hP hS ls (lv_sub hl [2, 3, 4, 5, 1, 0] rfl) KE172_0
                have J247 : mo_edge_J247 y58 = some o172 → ∀ (H : Heap) (locs : List Loc), PM D G ad (sgM_edge σ 0 a51 a11 a52 a35 a48 a49 a53 a54 a55) H → va_S A s.heap H locs → ∀ (ls : Array Slot), lv_has ls 7 [(0, .ref (ad 500)), (1, .int x1), (2, .int v17), (3, .int y39), (5, .int y58)] → W p l e rmM_edge s m args below meth c0 H locs 0 0 Q (F0 m 247 ls []) := by
                  intro  hf H locs hP hS ls hl
                  unfold mo_edge_J247 at hf
                  refine lv_iconst hx hb dX16_edge_247 ic_1 ?_
                  refine lv_goto (tgt := 252) hx hb dX16_edge_248 (by decide) ?_
                  exact J252 1 hf H locs hP hS ls (lv_sub hl [0, 1, 2, 3, 4] rfl)
                refine lv_if_ne (tgt := 247) hx hb dX16_edge_193 (by decide) (fun c64 => ?_) (fun c64 => ?_)
                · have hf := ifF c64 hf
                  exact J247  hf H locs hP hS ls (lv_sub hl [1, 2, 3, 4, 6] rfl)
                · have hf := ifT c64 hf
                  refine lv_aload_n hx hb dX16_edge_196 rfl (lv_at hl 1 rfl) ?_
                  refine gM_53 E hK hP dX16_edge_197 ?_
                  refine lv_iload hx hb dX16_edge_200 (lv_at hl 6 rfl) ?_
                  obtain ⟨v65, hv65, hf⟩ := bdP hf
                  refine p_iald hx hb hK hP dM_653 sgM_edge_raI653 hv65 dX16_edge_202 ?_
                  have J251 : mo_edge_J251 y58 = some o172 → ∀ (H : Heap) (locs : List Loc), PM D G ad (sgM_edge σ 0 a51 a11 a52 a35 a48 a49 a53 a54 a55) H → va_S A s.heap H locs → ∀ (ls : Array Slot), lv_has ls 7 [(0, .ref (ad 500)), (1, .int x1), (2, .int v17), (3, .int y39), (5, .int y58)] → W p l e rmM_edge s m args below meth c0 H locs 0 0 Q (F0 m 251 ls []) := by
                    intro  hf H locs hP hS ls hl
                    unfold mo_edge_J251 at hf
                    refine lv_iconst hx hb dX16_edge_251 ic_0 ?_
                    exact J252 0 hf H locs hP hS ls (lv_sub hl [0, 1, 2, 3, 4] rfl)
                  refine lv_if_le (tgt := 251) hx hb dX16_edge_203 (by decide) (fun c66 => ?_) (fun c66 => ?_)
                  · have hf := ifT c66 hf
                    exact J251  hf H locs hP hS ls (lv_sub hl [1, 2, 3, 4, 6] rfl)
                  · have hf := ifF c66 hf
                    refine lv_aload_n hx hb dX16_edge_206 rfl (lv_at hl 1 rfl) ?_
                    refine gM_28 E hK hP dX16_edge_207 ?_
                    refine lv_iload hx hb dX16_edge_210 (lv_at hl 0 rfl) ?_
                    obtain ⟨v67, hv67, hf⟩ := bdP hf
                    refine p_lald hx hb hK hP dM_628 sgM_edge_raL628 hv67 dX16_edge_212 ?_
                    refine lv_lconst hx hb dX16_edge_213 lc_0 ?_
                    refine W.lcmp hx hb dX16_edge_214 ?_
                    refine lv_if_le (tgt := 251) hx hb dX16_edge_215 (by decide) (fun c68 => ?_) (fun c68 => ?_)
                    · have hf := ifT ((lgc_le _ _).mp c68) hf
                      exact J251  hf H locs hP hS ls (lv_sub hl [1, 2, 3, 4, 6] rfl)
                    · have hf := ifF (mt (lgc_le _ _).mpr c68) hf
                      refine lv_aload_n hx hb dX16_edge_218 rfl (lv_at hl 1 rfl) ?_
                      refine gM_31 E hK hP dX16_edge_219 ?_
                      refine lv_sipush hx hb dX16_edge_222 sp_21870 ?_
                      refine lv_bipush hx hb dX16_edge_225 bp_10 ?_
                      refine lv_iload hx hb dX16_edge_227 (lv_at hl 0 rfl) ?_
                      refine lv_imul hx hb dX16_edge_229 ?_
                      refine lv_iadd hx hb dX16_edge_230 ?_
                      refine lv_iload_n hx hb dX16_edge_231 rfl (lv_at hl 3 rfl) ?_
                      refine lv_iadd hx hb dX16_edge_232 ?_
                      obtain ⟨v69, hv69, hf⟩ := bdP hf
                      refine p_iald hx hb hK hP dM_631 sgM_edge_raI631 hv69 dX16_edge_233 ?_
                      refine lv_bipush hx hb dX16_edge_234 bp_10 ?_
                      refine lv_iadd hx hb dX16_edge_236 ?_
                      refine lv_aload_n hx hb dX16_edge_237 rfl (lv_at hl 1 rfl) ?_
                      refine gM_53 E hK hP dX16_edge_238 ?_
                      refine lv_iload hx hb dX16_edge_241 (lv_at hl 6 rfl) ?_
                      obtain ⟨v70, hv70, hf⟩ := bdP hf
                      refine p_iald hx hb hK hP dM_653 sgM_edge_raI653 hv70 dX16_edge_243 ?_
                      refine lv_icmp_eq (tgt := 251) hx hb dX16_edge_244 (by decide) (fun c71 => ?_) (fun c71 => ?_)
                      · have hf := ifT c71 hf
                        exact J251  hf H locs hP hS ls (lv_sub hl [1, 2, 3, 4, 6] rfl)
                      · have hf := ifF c71 hf
                        exact J247  hf H locs hP hS ls (lv_sub hl [1, 2, 3, 4, 6] rfl)
            obtain ⟨ex172, hlp172, hf⟩ := bdP hf
            refine LP172 (0, 0) ex172 hlp172 H locs hP hS ls (lv_sub hl [2, 3, 4, 5, 1, 0] rfl) ?_
            intro y72 hex172 H locs hP hS ls hl
            subst ex172
            refine lv_aload_n hx hb dX16_edge_260 rfl (lv_at hl 0 rfl) ?_
            obtain ⟨⟨a73, a74⟩, u75, hf⟩ := bdP hf
            dsimp only at hf
            refine cM_useAsTold E hK hP hS hA sgM_edge_rzI522 sgM_edge_rzI523 sgM_edge_raI611 sgM_edge_raI624 sgM_edge_raI625 sgM_edge_raL626 sgM_edge_raL627 sgM_edge_raL628 u75 ⟨Nat.le_of_ble_eq_true rfl, Nat.le_of_ble_eq_true rfl⟩ ⟨Nat.zero_le _, Nat.zero_le _⟩ hl.1 (Nat.le_of_ble_eq_true rfl) dX16_edge_261 (fun H locs hP hS => ?_)
            rw [sgM_edge_aL627, sgM_edge_aL628] at hP
            refine lv_iload hx hb dX16_edge_264 (lv_at hl 4 rfl) ?_
            refine lv_if_eq (tgt := 271) hx hb dX16_edge_266 (by decide) (fun c76 => ?_) (fun c76 => ?_)
            · have hf := ifT c76 hf
              obtain ⟨v77, hv77, hf⟩ := bdP hf
              refine lv_iinc (v := v77) (lv' := [(3, .int v77), (0, .ref (ad 500)), (1, .int x1), (2, .int v17), (4, .int y72)]) hx hb dX16_edge_271 hl (k := 3) rfl (Option.some.inj hv77) (by decide) rfl (fun ls hl => ?_)
              refine lv_goto (tgt := 148) hx hb dX16_edge_274 (by decide) ?_
              exact ih148 _ (Option.some.inj hf).symm H locs hP hS ls (lv_sub hl [1, 2, 3, 0] rfl) KE148_0 KE148_1
            · have hf := ifF c76 hf
              exact KE148_0 _ _ _ _ _ _ _ _ (hx148 _ (Option.some.inj hf).symm).symm H locs hP hS ls (lv_sub hl [3] rfl)
        obtain ⟨ex148, hlp148, hf⟩ := bdP hf
        refine LP148 (v38, a10, a12, (σ.2.2.2.1 627), (σ.2.2.2.1 628), a13, a14, a15) ex148 hlp148 H locs hP hS ls (lv_sub hl [1, 2, 3, 0] rfl) ?_ ?_
        · intro y78 a79 a80 a81 a82 a83 a84 a85 hex148 H locs hP hS ls hl
          subst ex148
          dsimp only [sE_l, sE_r] at hf
          refine lv_iload_n hx hb dX16_edge_269 rfl (lv_at hl 0 rfl) ?_
          cases hf
          rw [hQ]; exact p_iret hx hb hr hlk hK hP hS dX16_edge_270
        · intro a86 a87 a88 a89 a90 a91 a92 hex148 H locs hP hS ls hl
          subst ex148
          dsimp only [sE_l, sE_r] at hf
          refine lv_bipush hx hb dX16_edge_277 bp_11 ?_
          cases hf
          rw [hQ]; exact p_iret hx hb hr hlk hK hP hS dX16_edge_279
      · have hf := ifT c9 hf
        refine lv_iconst hx hb dX16_edge_39 ic_m1 ?_
        cases hf
        rw [hQ]; exact p_iret hx hb hr hlk hK hP hS dX16_edge_40
theorem kM_edge (l : Launch) (D : va_G) (G : Nat → ClassId) (ad : Nat → Nat) (σ : Sto) {x1 : Int32} {r_ : Int32} {w_zI502 : Int32} {w_aI631 : Nat → Int32} {w_aI632 : Nat → Int32} {w_aI636 : Nat → Int32} {w_aI653 : Nat → Int32} {w_aL627 : Nat → Int64} {w_aL628 : Nat → Int64} {w_aL630 : Nat → Int64} {w_aL635 : Nat → Int64} {w_aL637 : Nat → Int64} (hf : mo_edge (σ.1 502) (σ.1 522) (σ.1 523) (σ.2.2.1 611) (σ.2.2.1 614) (σ.2.2.1 615) (σ.2.2.1 616) (σ.2.2.1 618) (σ.2.2.1 620) (σ.2.2.1 621) (σ.2.2.1 624) (σ.2.2.1 625) (σ.2.2.1 631) (σ.2.2.1 632) (σ.2.2.1 636) (σ.2.2.1 653) (σ.2.2.2.1 626) (σ.2.2.2.1 627) (σ.2.2.2.1 628) (σ.2.2.2.1 630) (σ.2.2.2.1 634) (σ.2.2.2.1 635) (σ.2.2.2.1 637) x1 = some (r_, w_zI502, w_aI631, w_aI632, w_aI636, w_aI653, w_aL627, w_aL628, w_aL630, w_aL635, w_aL637)) : CtI l D clsA G dscM ad yX16_edge (ws_ yX16_edge cX16_edge 7 (Option.some Jvm.ClassFile.FieldType.int)) rmM_edge [.ref (ad 500), .int x1] σ r_ (sgM_edge σ w_zI502 w_aI631 w_aI632 w_aI636 w_aI653 w_aL627 w_aL628 w_aL630 w_aL635 w_aL637) :=
  p_ctI (by decide +kernel) (Nat.le_of_ble_eq_true rfl) (fun p e s m below meth c0 ls A E hP hK hA hS hl => wkM_edge E hK hA hf rfl hP hS hl)
/-! begin(I)Z -/
def sgM_begin (σ : Sto) (w0 : Int32) (w1 : Int32) (w2 : Int32) (w3 : Int32) (w4 : Nat → Int32) (w5 : Nat → Int32) (w6 : Nat → Int32) : Sto := aI (aI (aI (zI (zI (zI (zI σ 502 w0) 554 w1) 555 w2) 556 w3) 657 w4) 658 w5) 659 w6
theorem sgM_begin_self (σ : Sto) : sgM_begin σ (σ.1 502) (σ.1 554) (σ.1 555) (σ.1 556) (σ.2.2.1 657) (σ.2.2.1 658) (σ.2.2.1 659) = σ := by
  unfold sgM_begin
  simp only [zI_self, zL_self, aI_self, aL_self]
theorem sgM_begin_zI502 {σ : Sto} {w0 : Int32} {w1 : Int32} {w2 : Int32} {w3 : Int32} {w4 : Nat → Int32} {w5 : Nat → Int32} {w6 : Nat → Int32} {g : Int32} : zI (sgM_begin σ w0 w1 w2 w3 w4 w5 w6) 502 g = sgM_begin σ g w1 w2 w3 w4 w5 w6 := (cm_zI_aI _ _ _ _ _).trans (congrArg (fun z => aI z 659 w6) ((cm_zI_aI _ _ _ _ _).trans (congrArg (fun z => aI z 658 w5) ((cm_zI_aI _ _ _ _ _).trans (congrArg (fun z => aI z 657 w4) ((zI_comm _ (by decide) _ _).trans (congrArg (fun z => zI z 556 w3) ((zI_comm _ (by decide) _ _).trans (congrArg (fun z => zI z 555 w2) ((zI_comm _ (by decide) _ _).trans (congrArg (fun z => zI z 554 w1) (zI_zI _ 502 _ _))))))))))))
theorem sgM_begin_zI554 {σ : Sto} {w0 : Int32} {w1 : Int32} {w2 : Int32} {w3 : Int32} {w4 : Nat → Int32} {w5 : Nat → Int32} {w6 : Nat → Int32} {g : Int32} : zI (sgM_begin σ w0 w1 w2 w3 w4 w5 w6) 554 g = sgM_begin σ w0 g w2 w3 w4 w5 w6 := (cm_zI_aI _ _ _ _ _).trans (congrArg (fun z => aI z 659 w6) ((cm_zI_aI _ _ _ _ _).trans (congrArg (fun z => aI z 658 w5) ((cm_zI_aI _ _ _ _ _).trans (congrArg (fun z => aI z 657 w4) ((zI_comm _ (by decide) _ _).trans (congrArg (fun z => zI z 556 w3) ((zI_comm _ (by decide) _ _).trans (congrArg (fun z => zI z 555 w2) (zI_zI _ 554 _ _))))))))))
theorem sgM_begin_zI555 {σ : Sto} {w0 : Int32} {w1 : Int32} {w2 : Int32} {w3 : Int32} {w4 : Nat → Int32} {w5 : Nat → Int32} {w6 : Nat → Int32} {g : Int32} : zI (sgM_begin σ w0 w1 w2 w3 w4 w5 w6) 555 g = sgM_begin σ w0 w1 g w3 w4 w5 w6 := (cm_zI_aI _ _ _ _ _).trans (congrArg (fun z => aI z 659 w6) ((cm_zI_aI _ _ _ _ _).trans (congrArg (fun z => aI z 658 w5) ((cm_zI_aI _ _ _ _ _).trans (congrArg (fun z => aI z 657 w4) ((zI_comm _ (by decide) _ _).trans (congrArg (fun z => zI z 556 w3) (zI_zI _ 555 _ _))))))))
theorem sgM_begin_zI556 {σ : Sto} {w0 : Int32} {w1 : Int32} {w2 : Int32} {w3 : Int32} {w4 : Nat → Int32} {w5 : Nat → Int32} {w6 : Nat → Int32} {g : Int32} : zI (sgM_begin σ w0 w1 w2 w3 w4 w5 w6) 556 g = sgM_begin σ w0 w1 w2 g w4 w5 w6 := (cm_zI_aI _ _ _ _ _).trans (congrArg (fun z => aI z 659 w6) ((cm_zI_aI _ _ _ _ _).trans (congrArg (fun z => aI z 658 w5) ((cm_zI_aI _ _ _ _ _).trans (congrArg (fun z => aI z 657 w4) (zI_zI _ 556 _ _))))))
theorem sgM_begin_aI657 {σ : Sto} {w0 : Int32} {w1 : Int32} {w2 : Int32} {w3 : Int32} {w4 : Nat → Int32} {w5 : Nat → Int32} {w6 : Nat → Int32} {g : Nat → Int32} : aI (sgM_begin σ w0 w1 w2 w3 w4 w5 w6) 657 g = sgM_begin σ w0 w1 w2 w3 g w5 w6 := (aI_comm _ (by decide) _ _).trans (congrArg (fun z => aI z 659 w6) ((aI_comm _ (by decide) _ _).trans (congrArg (fun z => aI z 658 w5) (aI_aI _ 657 _ _))))
theorem sgM_begin_aI658 {σ : Sto} {w0 : Int32} {w1 : Int32} {w2 : Int32} {w3 : Int32} {w4 : Nat → Int32} {w5 : Nat → Int32} {w6 : Nat → Int32} {g : Nat → Int32} : aI (sgM_begin σ w0 w1 w2 w3 w4 w5 w6) 658 g = sgM_begin σ w0 w1 w2 w3 w4 g w6 := (aI_comm _ (by decide) _ _).trans (congrArg (fun z => aI z 659 w6) (aI_aI _ 658 _ _))
theorem sgM_begin_aI659 {σ : Sto} {w0 : Int32} {w1 : Int32} {w2 : Int32} {w3 : Int32} {w4 : Nat → Int32} {w5 : Nat → Int32} {w6 : Nat → Int32} {g : Nat → Int32} : aI (sgM_begin σ w0 w1 w2 w3 w4 w5 w6) 659 g = sgM_begin σ w0 w1 w2 w3 w4 w5 g := aI_aI _ 659 _ _
theorem sgM_begin_rzI502 {σ : Sto} {w0 : Int32} {w1 : Int32} {w2 : Int32} {w3 : Int32} {w4 : Nat → Int32} {w5 : Nat → Int32} {w6 : Nat → Int32} : (sgM_begin σ w0 w1 w2 w3 w4 w5 w6).1 502 = w0 := rfl
theorem sgM_begin_rzI554 {σ : Sto} {w0 : Int32} {w1 : Int32} {w2 : Int32} {w3 : Int32} {w4 : Nat → Int32} {w5 : Nat → Int32} {w6 : Nat → Int32} : (sgM_begin σ w0 w1 w2 w3 w4 w5 w6).1 554 = w1 := rfl
theorem sgM_begin_rzI555 {σ : Sto} {w0 : Int32} {w1 : Int32} {w2 : Int32} {w3 : Int32} {w4 : Nat → Int32} {w5 : Nat → Int32} {w6 : Nat → Int32} : (sgM_begin σ w0 w1 w2 w3 w4 w5 w6).1 555 = w2 := rfl
theorem sgM_begin_rzI556 {σ : Sto} {w0 : Int32} {w1 : Int32} {w2 : Int32} {w3 : Int32} {w4 : Nat → Int32} {w5 : Nat → Int32} {w6 : Nat → Int32} : (sgM_begin σ w0 w1 w2 w3 w4 w5 w6).1 556 = w3 := rfl
theorem sgM_begin_raI611 {σ : Sto} {w0 : Int32} {w1 : Int32} {w2 : Int32} {w3 : Int32} {w4 : Nat → Int32} {w5 : Nat → Int32} {w6 : Nat → Int32} : (sgM_begin σ w0 w1 w2 w3 w4 w5 w6).2.2.1 611 = σ.2.2.1 611 := rfl
theorem sgM_begin_raI614 {σ : Sto} {w0 : Int32} {w1 : Int32} {w2 : Int32} {w3 : Int32} {w4 : Nat → Int32} {w5 : Nat → Int32} {w6 : Nat → Int32} : (sgM_begin σ w0 w1 w2 w3 w4 w5 w6).2.2.1 614 = σ.2.2.1 614 := rfl
theorem sgM_begin_raI615 {σ : Sto} {w0 : Int32} {w1 : Int32} {w2 : Int32} {w3 : Int32} {w4 : Nat → Int32} {w5 : Nat → Int32} {w6 : Nat → Int32} : (sgM_begin σ w0 w1 w2 w3 w4 w5 w6).2.2.1 615 = σ.2.2.1 615 := rfl
theorem sgM_begin_raI616 {σ : Sto} {w0 : Int32} {w1 : Int32} {w2 : Int32} {w3 : Int32} {w4 : Nat → Int32} {w5 : Nat → Int32} {w6 : Nat → Int32} : (sgM_begin σ w0 w1 w2 w3 w4 w5 w6).2.2.1 616 = σ.2.2.1 616 := rfl
theorem sgM_begin_raI620 {σ : Sto} {w0 : Int32} {w1 : Int32} {w2 : Int32} {w3 : Int32} {w4 : Nat → Int32} {w5 : Nat → Int32} {w6 : Nat → Int32} : (sgM_begin σ w0 w1 w2 w3 w4 w5 w6).2.2.1 620 = σ.2.2.1 620 := rfl
theorem sgM_begin_raI624 {σ : Sto} {w0 : Int32} {w1 : Int32} {w2 : Int32} {w3 : Int32} {w4 : Nat → Int32} {w5 : Nat → Int32} {w6 : Nat → Int32} : (sgM_begin σ w0 w1 w2 w3 w4 w5 w6).2.2.1 624 = σ.2.2.1 624 := rfl
theorem sgM_begin_raI657 {σ : Sto} {w0 : Int32} {w1 : Int32} {w2 : Int32} {w3 : Int32} {w4 : Nat → Int32} {w5 : Nat → Int32} {w6 : Nat → Int32} : (sgM_begin σ w0 w1 w2 w3 w4 w5 w6).2.2.1 657 = w4 := rfl
theorem sgM_begin_raI658 {σ : Sto} {w0 : Int32} {w1 : Int32} {w2 : Int32} {w3 : Int32} {w4 : Nat → Int32} {w5 : Nat → Int32} {w6 : Nat → Int32} : (sgM_begin σ w0 w1 w2 w3 w4 w5 w6).2.2.1 658 = w5 := rfl
theorem sgM_begin_raI659 {σ : Sto} {w0 : Int32} {w1 : Int32} {w2 : Int32} {w3 : Int32} {w4 : Nat → Int32} {w5 : Nat → Int32} {w6 : Nat → Int32} : (sgM_begin σ w0 w1 w2 w3 w4 w5 w6).2.2.1 659 = w6 := rfl
abbrev rmM_begin : Room := { frames := 2, cells := 0, slots := 0, locals := 47 }
set_option maxHeartbeats 4000000 in
theorem wkM_begin {x1 : Int32} {r_ : Int32} {w_zI502 : Int32} {w_zI554 : Int32} {w_zI555 : Int32} {w_zI556 : Int32} {w_aI657 : Nat → Int32} {w_aI658 : Nat → Int32} {w_aI659 : Nat → Int32} (E : EN p s m args meth c0 RX16 cX16_begin 6 (Option.some Jvm.ClassFile.FieldType.boolean)) (hK : KK D clsA G s) (hA : ∀ q, PA dscM ad s.heap.size q → A q) (hf : mo_begin (σ.1 502) (σ.1 554) (σ.1 555) (σ.1 556) (σ.2.2.1 611) (σ.2.2.1 614) (σ.2.2.1 615) (σ.2.2.1 616) (σ.2.2.1 620) (σ.2.2.1 624) (σ.2.2.1 657) (σ.2.2.1 658) (σ.2.2.1 659) x1 = some (r_, w_zI502, w_zI554, w_zI555, w_zI556, w_aI657, w_aI658, w_aI659)) (hQ : Q = MQ below (va_Qi (fun x (_ : Unit) => x = r_) (fun _ t => PM D G ad (sgM_begin σ w_zI502 w_zI554 w_zI555 w_zI556 w_aI657 w_aI658 w_aI659) t.heap ∧ KK D clsA G t) A) args s 0 0 A) (hP : PM D G ad σ H) (hS : va_S A s.heap H locs) (hl : lv_has ls 6 [(0, .ref (ad 500)), (1, .int x1)]) : W p l e rmM_begin s m args below meth c0 H locs 0 0 Q (F0 m 0 ls []) := by
  obtain ⟨⟨hx, hb, hml, hown, hts⟩, hr, hlk⟩ := id E
  have hP := hP.to (sgM_begin_self σ).symm
  unfold mo_begin at hf
  refine lv_aload_n hx hb dX16_begin_0 rfl (lv_at hl 0 rfl) ?_
  refine lv_iconst hx hb dX16_begin_1 ic_0 ?_
  refine uM_2 E hK hP hS (hA _ (PA_c dM_500)) sgM_begin_zI502 dX16_begin_2 (fun H locs hP hS => ?_)
  refine lv_iload_n hx hb dX16_begin_5 rfl (lv_at hl 1 rfl) ?_
  refine lv_if_lt (tgt := 16) hx hb dX16_begin_6 (by decide) (fun c1 => ?_) (fun c1 => ?_)
  · have hf := ifT c1 hf
    refine lv_iconst hx hb dX16_begin_16 ic_0 ?_
    cases hf
    rw [hQ]; exact p_zret hx hb hr hlk hK hP hS rfl dX16_begin_17
  · have hf := ifF c1 hf
    refine lv_aload_n hx hb dX16_begin_9 rfl (lv_at hl 0 rfl) ?_
    obtain ⟨v2, u3, hf⟩ := bdP hf
    refine cM_hasEnds E hK hP hS hA sgM_begin_raI611 u3 ⟨Nat.le_of_ble_eq_true rfl, Nat.le_of_ble_eq_true rfl⟩ ⟨Nat.zero_le _, Nat.zero_le _⟩ hl.1 (Nat.le_of_ble_eq_true rfl) dX16_begin_10 (fun H locs hP hS => ?_)
    refine lv_if_ne (tgt := 18) hx hb dX16_begin_13 (by decide) (fun c4 => ?_) (fun c4 => ?_)
    · have hf := ifF c4 hf
      refine lv_iload_n hx hb dX16_begin_18 rfl (lv_at hl 1 rfl) ?_
      refine lv_i2l hx hb dX16_begin_19 rfl ?_
      obtain ⟨v5, hv5, hf⟩ := bdP hf
      refine nm_l (Option.some.inj hv5) ?_
      refine lv_lstore_n (lv' := [(2, .long v5), (0, .ref (ad 500)), (1, .int x1)]) hx hb dX16_begin_20 rfl hl (by decide) rfl (fun ls hl => ?_)
      refine lv_aload_n hx hb dX16_begin_21 rfl (lv_at hl 1 rfl) ?_
      refine lv_iconst hx hb dX16_begin_22 ic_0 ?_
      refine uM_55 E hK hP hS (hA _ (PA_c dM_500)) sgM_begin_zI555 dX16_begin_23 (fun H locs hP hS => ?_)
      refine lv_iconst hx hb dX16_begin_26 ic_0 ?_
      refine lv_istore (lv' := [(4, .int 0), (2, .long v5), (0, .ref (ad 500)), (1, .int x1)]) hx hb dX16_begin_27 hl (by decide) rfl (fun ls hl => ?_)
      have LP29 : ∀ (st29 : Int64 × Int32 × Int32) (ex29 : (Int64 × Int32)), loop (mo_begin_L29 (σ.2.2.1 611) (σ.2.2.1 615) (σ.2.2.1 616)) st29 = some ex29 → ∀ (H : Heap) (locs : List Loc), PM D G ad (sgM_begin σ 0 (σ.1 554) (st29.2.2) (σ.1 556) (σ.2.2.1 657) (σ.2.2.1 658) (σ.2.2.1 659)) H → va_S A s.heap H locs → ∀ (ls : Array Slot), lv_has ls 6 [(0, .ref (ad 500)), (2, .long (st29.1)), (4, .int (st29.2.1))] → (∀ (y25 : Int64) (z26 : Int32), ex29 = (y25, z26) → ∀ (H : Heap) (locs : List Loc), PM D G ad (sgM_begin σ 0 (σ.1 554) z26 (σ.1 556) (σ.2.2.1 657) (σ.2.2.1 658) (σ.2.2.1 659)) H → va_S A s.heap H locs → ∀ (ls : Array Slot), lv_has ls 6 [(0, .ref (ad 500)), (2, .long y25)] → W p l e rmM_begin s m args below meth c0 H locs 0 0 Q (F0 m 125 ls [])) → W p l e rmM_begin s m args below meth c0 H locs 0 0 Q (F0 m 29 ls []) := by
        refine loop_P (fun st29 ex29 o29 hf ih29 hx29 => ?_)
        obtain ⟨y6, y7, z8⟩ := st29
        intro H locs (hP : PM D G ad (sgM_begin σ 0 (σ.1 554) z8 (σ.1 556) (σ.2.2.1 657) (σ.2.2.1 658) (σ.2.2.1 659)) H) hS ls (hl : lv_has ls 6 [(0, .ref (ad 500)), (2, .long y6), (4, .int y7)]) KE29_0
        dsimp only [mo_begin_L29] at hf
        refine lv_iload hx hb dX16_begin_29 (lv_at hl 2 rfl) ?_
        refine lv_aload_n hx hb dX16_begin_31 rfl (lv_at hl 0 rfl) ?_
        obtain ⟨v9, u10, hf⟩ := bdP hf
        refine cM_doubts E hK hP hS hA sgM_begin_raI611 u10 ⟨Nat.le_of_ble_eq_true rfl, Nat.le_of_ble_eq_true rfl⟩ ⟨Nat.zero_le _, Nat.zero_le _⟩ hl.1 (Nat.le_of_ble_eq_true rfl) dX16_begin_32 (fun H locs hP hS => ?_)
        refine lv_icmp_ge (tgt := 125) hx hb dX16_begin_35 (by decide) (fun c11 => ?_) (fun c11 => ?_)
        · have hf := ifT c11 hf
          exact KE29_0 _ _ (hx29 _ (Option.some.inj hf).symm).symm H locs hP hS ls (lv_sub hl [0, 1] rfl)
        · have hf := ifF c11 hf
          refine lv_aload_n hx hb dX16_begin_38 rfl (lv_at hl 0 rfl) ?_
          refine gM_15 E hK hP dX16_begin_39 ?_
          refine lv_bipush hx hb dX16_begin_42 bp_7 ?_
          refine lv_aload_n hx hb dX16_begin_44 rfl (lv_at hl 0 rfl) ?_
          refine gM_16 E hK hP dX16_begin_45 ?_
          refine lv_iload hx hb dX16_begin_48 (lv_at hl 2 rfl) ?_
          obtain ⟨v12, hv12, hf⟩ := bdP hf
          refine p_iald hx hb hK hP dM_616 sgM_begin_raI616 hv12 dX16_begin_50 ?_
          refine lv_imul hx hb dX16_begin_51 ?_
          refine lv_iconst hx hb dX16_begin_52 ic_3 ?_
          refine lv_iadd hx hb dX16_begin_53 ?_
          obtain ⟨v13, hv13, hf⟩ := bdP hf
          refine p_iald hx hb hK hP dM_615 sgM_begin_raI615 hv13 dX16_begin_54 ?_
          have J119 : ∀ (y14 : Int64) (z15 : Int32), mo_begin_J119 y7 y14 z15 = some o29 → ∀ (H : Heap) (locs : List Loc), PM D G ad (sgM_begin σ 0 (σ.1 554) z15 (σ.1 556) (σ.2.2.1 657) (σ.2.2.1 658) (σ.2.2.1 659)) H → va_S A s.heap H locs → ∀ (ls : Array Slot), lv_has ls 6 [(0, .ref (ad 500)), (2, .long y14), (4, .int y7)] → W p l e rmM_begin s m args below meth c0 H locs 0 0 Q (F0 m 119 ls []) := by
            intro y14 z15 hf H locs hP hS ls hl
            unfold mo_begin_J119 at hf
            obtain ⟨v16, hv16, hf⟩ := bdP hf
            refine lv_iinc (v := v16) (lv' := [(4, .int v16), (0, .ref (ad 500)), (2, .long y14)]) hx hb dX16_begin_119 hl (k := 2) rfl (Option.some.inj hv16) (by decide) rfl (fun ls hl => ?_)
            refine lv_goto (tgt := 29) hx hb dX16_begin_122 (by decide) ?_
            exact ih29 _ (Option.some.inj hf).symm H locs hP hS ls (lv_sub hl [1, 2, 0] rfl) KE29_0
          refine lv_if_ne (tgt := 61) hx hb dX16_begin_55 (by decide) (fun c17 => ?_) (fun c17 => ?_)
          · have hf := ifF c17 hf
            refine lv_lload_n hx hb dX16_begin_61 rfl (lv_at hl 1 rfl) ?_
            refine lv_ldc2 hx hb hown (hts _ q2249) dX16_begin_62 ?_
            refine lv_lmul hx hb dX16_begin_65 ?_
            refine lv_ldc2 hx hb hown (hts _ q2250) dX16_begin_66 ?_
            refine lv_ladd hx hb dX16_begin_69 ?_
            refine lv_ldc2 hx hb hown (hts _ q2251) dX16_begin_70 ?_
            refine lv_land hx hb dX16_begin_73 ?_
            obtain ⟨v18, hv18, hf⟩ := bdP hf
            refine nm_l (Option.some.inj hv18) ?_
            refine lv_lstore_n (lv' := [(2, .long v18), (0, .ref (ad 500)), (4, .int y7)]) hx hb dX16_begin_74 rfl hl (by decide) rfl (fun ls hl => ?_)
            refine lv_lload_n hx hb dX16_begin_75 rfl (lv_at hl 0 rfl) ?_
            refine lv_ldc2 hx hb hown (hts _ q2252) dX16_begin_76 ?_
            obtain ⟨v19, hv19, hf⟩ := bdP hf
            refine lv_ldiv hx hb dX16_begin_79 (dvL_some hv19).1 ?_
            refine nm_l (dvL_some hv19).2 ?_
            refine lv_ldc2 hx hb hown (hts _ q1667) dX16_begin_80 ?_
            obtain ⟨v20, hv20, hf⟩ := bdP hf
            refine lv_lrem hx hb dX16_begin_83 (rmL_some hv20).1 ?_
            refine nm_l (rmL_some hv20).2 ?_
            refine lv_aload_n hx hb dX16_begin_84 rfl (lv_at hl 1 rfl) ?_
            refine gM_15 E hK hP dX16_begin_85 ?_
            refine lv_bipush hx hb dX16_begin_88 bp_7 ?_
            refine lv_aload_n hx hb dX16_begin_90 rfl (lv_at hl 1 rfl) ?_
            refine gM_16 E hK hP dX16_begin_91 ?_
            refine lv_iload hx hb dX16_begin_94 (lv_at hl 2 rfl) ?_
            obtain ⟨v21, hv21, hf⟩ := bdP hf
            refine p_iald hx hb hK hP dM_616 sgM_begin_raI616 hv21 dX16_begin_96 ?_
            refine lv_imul hx hb dX16_begin_97 ?_
            refine lv_iconst hx hb dX16_begin_98 ic_3 ?_
            refine lv_iadd hx hb dX16_begin_99 ?_
            obtain ⟨v22, hv22, hf⟩ := bdP hf
            refine p_iald hx hb hK hP dM_615 sgM_begin_raI615 hv22 dX16_begin_100 ?_
            refine lv_i2l hx hb dX16_begin_101 rfl ?_
            refine W.lcmp hx hb dX16_begin_102 ?_
            refine lv_if_ge (tgt := 119) hx hb dX16_begin_103 (by decide) (fun c23 => ?_) (fun c23 => ?_)
            · have hf := ifT ((lgc_ge _ _).mp c23) hf
              exact J119 v18 z8 hf H locs hP hS ls (lv_sub hl [1, 0, 2] rfl)
            · have hf := ifF (mt (lgc_ge _ _).mpr c23) hf
              refine lv_aload_n hx hb dX16_begin_106 rfl (lv_at hl 1 rfl) ?_
              refine lv_dup hx hb dX16_begin_107 rfl ?_
              refine gM_55 (v := z8) E hK hP sgM_begin_rzI555 dX16_begin_108 ?_
              refine lv_iconst hx hb dX16_begin_111 ic_1 ?_
              refine lv_iload hx hb dX16_begin_112 (lv_at hl 2 rfl) ?_
              refine lv_ishl hx hb dX16_begin_114 ?_
              refine lv_ior hx hb dX16_begin_115 ?_
              obtain ⟨v24, hv24, hf⟩ := bdP hf
              refine nm_i (Option.some.inj hv24) ?_
              refine uM_55 E hK hP hS (hA _ (PA_c dM_500)) sgM_begin_zI555 dX16_begin_116 (fun H locs hP hS => ?_)
              exact J119 v18 v24 hf H locs hP hS ls (lv_sub hl [1, 0, 2] rfl)
          · have hf := ifT c17 hf
            refine lv_goto (tgt := 119) hx hb dX16_begin_58 (by decide) ?_
            exact J119 y6 z8 hf H locs hP hS ls (lv_sub hl [0, 1, 2] rfl)
      obtain ⟨ex29, hlp29, hf⟩ := bdP hf
      refine LP29 (v5, 0, 0) ex29 hlp29 H locs hP hS ls (lv_sub hl [2, 1, 0] rfl) ?_
      intro y25 z26 hex29 H locs hP hS ls hl
      subst ex29
      dsimp only at hf
      refine lv_iconst hx hb dX16_begin_125 ic_0 ?_
      refine lv_istore (lv' := [(4, .int 0), (0, .ref (ad 500)), (2, .long y25)]) hx hb dX16_begin_126 hl (by decide) rfl (fun ls hl => ?_)
      have LP128 : ∀ (st128 : Int64 × Int32 × Int32) (ex128 : (Int32)), loop (mo_begin_L128 (σ.2.2.1 611) (σ.2.2.1 614) (σ.2.2.1 615) (σ.2.2.1 616)) st128 = some ex128 → ∀ (H : Heap) (locs : List Loc), PM D G ad (sgM_begin σ 0 (σ.1 554) (st128.2.2) (σ.1 556) (σ.2.2.1 657) (σ.2.2.1 658) (σ.2.2.1 659)) H → va_S A s.heap H locs → ∀ (ls : Array Slot), lv_has ls 6 [(0, .ref (ad 500)), (2, .long (st128.1)), (4, .int (st128.2.1))] → (∀ (z51 : Int32), ex128 = z51 → ∀ (H : Heap) (locs : List Loc), PM D G ad (sgM_begin σ 0 (σ.1 554) z51 (σ.1 556) (σ.2.2.1 657) (σ.2.2.1 658) (σ.2.2.1 659)) H → va_S A s.heap H locs → ∀ (ls : Array Slot), lv_has ls 6 [(0, .ref (ad 500))] → W p l e rmM_begin s m args below meth c0 H locs 0 0 Q (F0 m 236 ls [])) → W p l e rmM_begin s m args below meth c0 H locs 0 0 Q (F0 m 128 ls []) := by
        refine loop_P (fun st128 ex128 o128 hf ih128 hx128 => ?_)
        obtain ⟨y27, y28, z29⟩ := st128
        intro H locs (hP : PM D G ad (sgM_begin σ 0 (σ.1 554) z29 (σ.1 556) (σ.2.2.1 657) (σ.2.2.1 658) (σ.2.2.1 659)) H) hS ls (hl : lv_has ls 6 [(0, .ref (ad 500)), (2, .long y27), (4, .int y28)]) KE128_0
        dsimp only [mo_begin_L128] at hf
        refine lv_iload hx hb dX16_begin_128 (lv_at hl 2 rfl) ?_
        refine lv_aload_n hx hb dX16_begin_130 rfl (lv_at hl 0 rfl) ?_
        refine gM_11 E hK hP dX16_begin_131 ?_
        refine lv_iconst hx hb dX16_begin_134 ic_1 ?_
        obtain ⟨v30, hv30, hf⟩ := bdP hf
        refine p_iald hx hb hK hP dM_611 sgM_begin_raI611 hv30 dX16_begin_135 ?_
        refine lv_icmp_ge (tgt := 236) hx hb dX16_begin_136 (by decide) (fun c31 => ?_) (fun c31 => ?_)
        · have hf := ifT c31 hf
          exact KE128_0 _ (hx128 _ (Option.some.inj hf).symm).symm H locs hP hS ls (lv_sub hl [0] rfl)
        · have hf := ifF c31 hf
          refine lv_lload_n hx hb dX16_begin_139 rfl (lv_at hl 1 rfl) ?_
          refine lv_ldc2 hx hb hown (hts _ q2249) dX16_begin_140 ?_
          refine lv_lmul hx hb dX16_begin_143 ?_
          refine lv_ldc2 hx hb hown (hts _ q2250) dX16_begin_144 ?_
          refine lv_ladd hx hb dX16_begin_147 ?_
          refine lv_ldc2 hx hb hown (hts _ q2251) dX16_begin_148 ?_
          refine lv_land hx hb dX16_begin_151 ?_
          obtain ⟨v32, hv32, hf⟩ := bdP hf
          refine nm_l (Option.some.inj hv32) ?_
          refine lv_lstore_n (lv' := [(2, .long v32), (0, .ref (ad 500)), (4, .int y28)]) hx hb dX16_begin_152 rfl hl (by decide) rfl (fun ls hl => ?_)
          refine lv_lload_n hx hb dX16_begin_153 rfl (lv_at hl 0 rfl) ?_
          refine lv_ldc2 hx hb hown (hts _ q2252) dX16_begin_154 ?_
          obtain ⟨v33, hv33, hf⟩ := bdP hf
          refine lv_ldiv hx hb dX16_begin_157 (dvL_some hv33).1 ?_
          refine nm_l (dvL_some hv33).2 ?_
          refine lv_ldc2 hx hb hown (hts _ q1667) dX16_begin_158 ?_
          obtain ⟨v34, hv34, hf⟩ := bdP hf
          refine lv_lrem hx hb dX16_begin_161 (rmL_some hv34).1 ?_
          refine nm_l (rmL_some hv34).2 ?_
          refine lv_aload_n hx hb dX16_begin_162 rfl (lv_at hl 1 rfl) ?_
          refine gM_14 E hK hP dX16_begin_163 ?_
          refine lv_iload hx hb dX16_begin_166 (lv_at hl 2 rfl) ?_
          obtain ⟨v35, hv35, hf⟩ := bdP hf
          refine p_iald hx hb hK hP dM_614 sgM_begin_raI614 hv35 dX16_begin_168 ?_
          refine lv_i2l hx hb dX16_begin_169 rfl ?_
          refine W.lcmp hx hb dX16_begin_170 ?_
          have J230 : ∀ (z36 : Int32), mo_begin_J230 y28 v32 z36 = some o128 → ∀ (H : Heap) (locs : List Loc), PM D G ad (sgM_begin σ 0 (σ.1 554) z36 (σ.1 556) (σ.2.2.1 657) (σ.2.2.1 658) (σ.2.2.1 659)) H → va_S A s.heap H locs → ∀ (ls : Array Slot), lv_has ls 6 [(0, .ref (ad 500)), (2, .long v32), (4, .int y28)] → W p l e rmM_begin s m args below meth c0 H locs 0 0 Q (F0 m 230 ls []) := by
            intro z36 hf H locs hP hS ls hl
            unfold mo_begin_J230 at hf
            obtain ⟨v37, hv37, hf⟩ := bdP hf
            refine lv_iinc (v := v37) (lv' := [(4, .int v37), (0, .ref (ad 500)), (2, .long v32)]) hx hb dX16_begin_230 hl (k := 2) rfl (Option.some.inj hv37) (by decide) rfl (fun ls hl => ?_)
            refine lv_goto (tgt := 128) hx hb dX16_begin_233 (by decide) ?_
            exact ih128 _ (Option.some.inj hf).symm H locs hP hS ls (lv_sub hl [1, 2, 0] rfl) KE128_0
          refine lv_if_lt (tgt := 177) hx hb dX16_begin_171 (by decide) (fun c38 => ?_) (fun c38 => ?_)
          · have hf := ifT ((lgc_lt _ _).mp c38) hf
            refine lv_iconst hx hb dX16_begin_177 ic_0 ?_
            refine lv_istore (lv' := [(5, .int 0), (2, .long v32), (0, .ref (ad 500)), (4, .int y28)]) hx hb dX16_begin_178 hl (by decide) rfl (fun ls hl => ?_)
            have LP180 : ∀ (st180 : Int32 × Int32) (ex180 : (Int32)), loop (mo_begin_L180 (σ.2.2.1 611) (σ.2.2.1 615) (σ.2.2.1 616) y28) st180 = some ex180 → ∀ (H : Heap) (locs : List Loc), PM D G ad (sgM_begin σ 0 (σ.1 554) (st180.2) (σ.1 556) (σ.2.2.1 657) (σ.2.2.1 658) (σ.2.2.1 659)) H → va_S A s.heap H locs → ∀ (ls : Array Slot), lv_has ls 6 [(0, .ref (ad 500)), (2, .long v32), (4, .int y28), (5, .int (st180.1))] → (∀ (z50 : Int32), ex180 = z50 → ∀ (H : Heap) (locs : List Loc), PM D G ad (sgM_begin σ 0 (σ.1 554) z50 (σ.1 556) (σ.2.2.1 657) (σ.2.2.1 658) (σ.2.2.1 659)) H → va_S A s.heap H locs → ∀ (ls : Array Slot), lv_has ls 6 [(0, .ref (ad 500)), (2, .long v32), (4, .int y28)] → W p l e rmM_begin s m args below meth c0 H locs 0 0 Q (F0 m 230 ls [])) → W p l e rmM_begin s m args below meth c0 H locs 0 0 Q (F0 m 180 ls []) := by
              refine loop_P (fun st180 ex180 o180 hf ih180 hx180 => ?_)
              obtain ⟨y39, z40⟩ := st180
              intro H locs (hP : PM D G ad (sgM_begin σ 0 (σ.1 554) z40 (σ.1 556) (σ.2.2.1 657) (σ.2.2.1 658) (σ.2.2.1 659)) H) hS ls (hl : lv_has ls 6 [(0, .ref (ad 500)), (2, .long v32), (4, .int y28), (5, .int y39)]) KE180_0
              dsimp only [mo_begin_L180] at hf
              refine lv_iload hx hb dX16_begin_180 (lv_at hl 3 rfl) ?_
              refine lv_aload_n hx hb dX16_begin_182 rfl (lv_at hl 0 rfl) ?_
              obtain ⟨v41, u42, hf⟩ := bdP hf
              refine cM_doubts E hK hP hS hA sgM_begin_raI611 u42 ⟨Nat.le_of_ble_eq_true rfl, Nat.le_of_ble_eq_true rfl⟩ ⟨Nat.zero_le _, Nat.zero_le _⟩ hl.1 (Nat.le_of_ble_eq_true rfl) dX16_begin_183 (fun H locs hP hS => ?_)
              refine lv_icmp_ge (tgt := 230) hx hb dX16_begin_186 (by decide) (fun c43 => ?_) (fun c43 => ?_)
              · have hf := ifT c43 hf
                exact KE180_0 _ (hx180 _ (Option.some.inj hf).symm).symm H locs hP hS ls (lv_sub hl [0, 1, 2] rfl)
              · have hf := ifF c43 hf
                refine lv_aload_n hx hb dX16_begin_189 rfl (lv_at hl 0 rfl) ?_
                refine gM_15 E hK hP dX16_begin_190 ?_
                refine lv_bipush hx hb dX16_begin_193 bp_7 ?_
                refine lv_aload_n hx hb dX16_begin_195 rfl (lv_at hl 0 rfl) ?_
                refine gM_16 E hK hP dX16_begin_196 ?_
                refine lv_iload hx hb dX16_begin_199 (lv_at hl 3 rfl) ?_
                obtain ⟨v44, hv44, hf⟩ := bdP hf
                refine p_iald hx hb hK hP dM_616 sgM_begin_raI616 hv44 dX16_begin_201 ?_
                refine lv_imul hx hb dX16_begin_202 ?_
                refine lv_iconst hx hb dX16_begin_203 ic_4 ?_
                refine lv_iadd hx hb dX16_begin_204 ?_
                obtain ⟨v45, hv45, hf⟩ := bdP hf
                refine p_iald hx hb hK hP dM_615 sgM_begin_raI615 hv45 dX16_begin_205 ?_
                refine lv_iload hx hb dX16_begin_206 (lv_at hl 2 rfl) ?_
                have J224 : ∀ (z46 : Int32), mo_begin_J224 y39 z46 = some o180 → ∀ (H : Heap) (locs : List Loc), PM D G ad (sgM_begin σ 0 (σ.1 554) z46 (σ.1 556) (σ.2.2.1 657) (σ.2.2.1 658) (σ.2.2.1 659)) H → va_S A s.heap H locs → ∀ (ls : Array Slot), lv_has ls 6 [(0, .ref (ad 500)), (2, .long v32), (4, .int y28), (5, .int y39)] → W p l e rmM_begin s m args below meth c0 H locs 0 0 Q (F0 m 224 ls []) := by
                  intro z46 hf H locs hP hS ls hl
                  unfold mo_begin_J224 at hf
                  obtain ⟨v47, hv47, hf⟩ := bdP hf
                  refine lv_iinc (v := v47) (lv' := [(5, .int v47), (0, .ref (ad 500)), (2, .long v32), (4, .int y28)]) hx hb dX16_begin_224 hl (k := 3) rfl (Option.some.inj hv47) (by decide) rfl (fun ls hl => ?_)
                  refine lv_goto (tgt := 180) hx hb dX16_begin_227 (by decide) ?_
                  exact ih180 _ (Option.some.inj hf).symm H locs hP hS ls (lv_sub hl [1, 2, 3, 0] rfl) KE180_0
                refine lv_icmp_ne (tgt := 224) hx hb dX16_begin_208 (by decide) (fun c48 => ?_) (fun c48 => ?_)
                · have hf := ifF c48 hf
                  exact J224 z40 hf H locs hP hS ls (lv_sub hl [0, 1, 2, 3] rfl)
                · have hf := ifT c48 hf
                  refine lv_aload_n hx hb dX16_begin_211 rfl (lv_at hl 0 rfl) ?_
                  refine lv_dup hx hb dX16_begin_212 rfl ?_
                  refine gM_55 (v := z40) E hK hP sgM_begin_rzI555 dX16_begin_213 ?_
                  refine lv_iconst hx hb dX16_begin_216 ic_1 ?_
                  refine lv_iload hx hb dX16_begin_217 (lv_at hl 3 rfl) ?_
                  refine lv_ishl hx hb dX16_begin_219 ?_
                  refine lv_ior hx hb dX16_begin_220 ?_
                  obtain ⟨v49, hv49, hf⟩ := bdP hf
                  refine nm_i (Option.some.inj hv49) ?_
                  refine uM_55 E hK hP hS (hA _ (PA_c dM_500)) sgM_begin_zI555 dX16_begin_221 (fun H locs hP hS => ?_)
                  exact J224 v49 hf H locs hP hS ls (lv_sub hl [0, 1, 2, 3] rfl)
            obtain ⟨ex180, hlp180, hf⟩ := bdP hf
            refine LP180 (0, z29) ex180 hlp180 H locs hP hS ls (lv_sub hl [2, 1, 3, 0] rfl) ?_
            intro z50 hex180 H locs hP hS ls hl
            subst ex180
            exact J230 z50 hf H locs hP hS ls (lv_sub hl [0, 1, 2] rfl)
          · have hf := ifF (mt (lgc_lt _ _).mpr c38) hf
            refine lv_goto (tgt := 230) hx hb dX16_begin_174 (by decide) ?_
            exact J230 z29 hf H locs hP hS ls (lv_sub hl [1, 0, 2] rfl)
      obtain ⟨ex128, hlp128, hf⟩ := bdP hf
      refine LP128 (y25, 0, z26) ex128 hlp128 H locs hP hS ls (lv_sub hl [1, 2, 0] rfl) ?_
      intro z51 hex128 H locs hP hS ls hl
      subst ex128
      refine lv_aload_n hx hb dX16_begin_236 rfl (lv_at hl 0 rfl) ?_
      refine lv_iconst hx hb dX16_begin_237 ic_1 ?_
      refine uM_54 E hK hP hS (hA _ (PA_c dM_500)) rfl rfl sgM_begin_zI554 dX16_begin_238 (fun H locs hP hS => ?_)
      refine lv_aload_n hx hb dX16_begin_241 rfl (lv_at hl 0 rfl) ?_
      refine lv_iconst hx hb dX16_begin_242 ic_0 ?_
      refine uM_56 E hK hP hS (hA _ (PA_c dM_500)) sgM_begin_zI556 dX16_begin_243 (fun H locs hP hS => ?_)
      refine lv_aload_n hx hb dX16_begin_246 rfl (lv_at hl 0 rfl) ?_
      refine gM_57 E hK hP dX16_begin_247 ?_
      refine lv_iconst hx hb dX16_begin_250 ic_0 ?_
      refine lv_aload_n hx hb dX16_begin_251 rfl (lv_at hl 0 rfl) ?_
      refine gM_11 E hK hP dX16_begin_252 ?_
      refine lv_bipush hx hb dX16_begin_255 bp_6 ?_
      obtain ⟨v52, hv52, hf⟩ := bdP hf
      refine p_iald hx hb hK hP dM_611 sgM_begin_raI611 hv52 dX16_begin_257 ?_
      obtain ⟨a53, ha53, hf⟩ := bdP hf
      refine p_iast hx hb hK hP hS (hA _ (PA_c dM_657)) dM_657 sgM_begin_raI657 ha53 sgM_begin_aI657 dX16_begin_258 (fun H locs hP hS => ?_)
      refine lv_aload_n hx hb dX16_begin_259 rfl (lv_at hl 0 rfl) ?_
      refine gM_58 E hK hP dX16_begin_260 ?_
      refine lv_iconst hx hb dX16_begin_263 ic_0 ?_
      refine lv_iconst hx hb dX16_begin_264 ic_0 ?_
      obtain ⟨a54, ha54, hf⟩ := bdP hf
      refine p_iast hx hb hK hP hS (hA _ (PA_c dM_658)) dM_658 sgM_begin_raI658 ha54 sgM_begin_aI658 dX16_begin_265 (fun H locs hP hS => ?_)
      refine lv_aload_n hx hb dX16_begin_266 rfl (lv_at hl 0 rfl) ?_
      refine gM_59 E hK hP dX16_begin_267 ?_
      refine lv_iconst hx hb dX16_begin_270 ic_0 ?_
      refine lv_aload_n hx hb dX16_begin_271 rfl (lv_at hl 0 rfl) ?_
      refine lv_aload_n hx hb dX16_begin_272 rfl (lv_at hl 0 rfl) ?_
      refine gM_11 E hK hP dX16_begin_273 ?_
      refine lv_bipush hx hb dX16_begin_276 bp_6 ?_
      obtain ⟨v55, hv55, hf⟩ := bdP hf
      refine p_iald hx hb hK hP dM_611 sgM_begin_raI611 hv55 dX16_begin_278 ?_
      refine lv_iconst hx hb dX16_begin_279 ic_0 ?_
      refine lv_aload_n hx hb dX16_begin_280 rfl (lv_at hl 0 rfl) ?_
      refine gM_55 (v := z51) E hK hP sgM_begin_rzI555 dX16_begin_281 ?_
      obtain ⟨v56, u57, hf⟩ := bdP hf
      refine cM_learns E hK hP hS hA sgM_begin_raI611 sgM_begin_raI620 sgM_begin_raI624 u57 ⟨Nat.le_of_ble_eq_true rfl, Nat.le_of_ble_eq_true rfl⟩ ⟨Nat.zero_le _, Nat.zero_le _⟩ hl.1 (Nat.le_of_ble_eq_true rfl) dX16_begin_284 (fun H locs hP hS => ?_)
      obtain ⟨a58, ha58, hf⟩ := bdP hf
      refine p_iast hx hb hK hP hS (hA _ (PA_c dM_659)) dM_659 sgM_begin_raI659 ha58 sgM_begin_aI659 dX16_begin_287 (fun H locs hP hS => ?_)
      refine lv_iconst hx hb dX16_begin_288 ic_1 ?_
      cases hf
      rw [hQ]; exact p_zret hx hb hr hlk hK hP hS rfl dX16_begin_289
    · have hf := ifT c4 hf
      refine lv_iconst hx hb dX16_begin_16 ic_0 ?_
      cases hf
      rw [hQ]; exact p_zret hx hb hr hlk hK hP hS rfl dX16_begin_17
theorem kM_begin (l : Launch) (D : va_G) (G : Nat → ClassId) (ad : Nat → Nat) (σ : Sto) {x1 : Int32} {r_ : Int32} {w_zI502 : Int32} {w_zI554 : Int32} {w_zI555 : Int32} {w_zI556 : Int32} {w_aI657 : Nat → Int32} {w_aI658 : Nat → Int32} {w_aI659 : Nat → Int32} (hf : mo_begin (σ.1 502) (σ.1 554) (σ.1 555) (σ.1 556) (σ.2.2.1 611) (σ.2.2.1 614) (σ.2.2.1 615) (σ.2.2.1 616) (σ.2.2.1 620) (σ.2.2.1 624) (σ.2.2.1 657) (σ.2.2.1 658) (σ.2.2.1 659) x1 = some (r_, w_zI502, w_zI554, w_zI555, w_zI556, w_aI657, w_aI658, w_aI659)) : CtI l D clsA G dscM ad yX16_begin (ws_ yX16_begin cX16_begin 6 (Option.some Jvm.ClassFile.FieldType.boolean)) rmM_begin [.ref (ad 500), .int x1] σ r_ (sgM_begin σ w_zI502 w_zI554 w_zI555 w_zI556 w_aI657 w_aI658 w_aI659) :=
  p_ctI (by decide +kernel) (Nat.le_of_ble_eq_true rfl) (fun p e s m below meth c0 ls A E hP hK hA hS hl => wkM_begin E hK hA hf rfl hP hS hl)
/-! canWalk()Z -/
abbrev rmM_canWalk : Room := { frames := 0, cells := 0, slots := 0, locals := 0 }
set_option maxHeartbeats 4000000 in
theorem wkM_canWalk  {r_ : Int32} (E : EN p s m args meth c0 RX16 cX16_canWalk 1 (Option.some Jvm.ClassFile.FieldType.boolean)) (hK : KK D clsA G s) (hA : ∀ q, PA dscM ad s.heap.size q → A q) (hf : mo_canWalk (σ.1 554) (σ.1 556) (σ.2.2.1 611) (σ.2.2.1 657) = some r_) (hQ : Q = MQ below (va_Qi (fun x (_ : Unit) => x = r_) (fun _ t => PM D G ad σ t.heap ∧ KK D clsA G t) A) args s 0 0 A) (hP : PM D G ad σ H) (hS : va_S A s.heap H locs) (hl : lv_has ls 1 [(0, .ref (ad 500))]) : W p l e rmM_canWalk s m args below meth c0 H locs 0 0 Q (F0 m 0 ls []) := by
  obtain ⟨⟨hx, hb, hml, hown, hts⟩, hr, hlk⟩ := id E
  unfold mo_canWalk at hf
  refine lv_aload_n hx hb dX16_canWalk_0 rfl (lv_at hl 0 rfl) ?_
  refine gM_54 (v := (σ.1 554)) E hK hP rfl dX16_canWalk_1 ?_
  have J39 : mo_canWalk_J39 = some r_ → ∀ (H : Heap) (locs : List Loc), PM D G ad σ H → va_S A s.heap H locs → ∀ (ls : Array Slot), lv_has ls 1 [] → W p l e rmM_canWalk s m args below meth c0 H locs 0 0 Q (F0 m 39 ls []) := by
    intro  hf H locs hP hS ls hl
    unfold mo_canWalk_J39 at hf
    refine lv_iconst hx hb dX16_canWalk_39 ic_0 ?_
    cases hf
    rw [hQ]; exact p_zret hx hb hr hlk hK hP hS rfl dX16_canWalk_40
  refine lv_if_eq (tgt := 39) hx hb dX16_canWalk_4 (by decide) (fun c1 => ?_) (fun c1 => ?_)
  · have hf := ifT c1 hf
    exact J39  hf H locs hP hS ls (lv_sub hl [] rfl)
  · have hf := ifF c1 hf
    refine lv_aload_n hx hb dX16_canWalk_7 rfl (lv_at hl 0 rfl) ?_
    refine gM_56 (v := (σ.1 556)) E hK hP rfl dX16_canWalk_8 ?_
    refine lv_bipush hx hb dX16_canWalk_11 bp_100 ?_
    refine lv_icmp_ge (tgt := 39) hx hb dX16_canWalk_13 (by decide) (fun c2 => ?_) (fun c2 => ?_)
    · have hf := ifT c2 hf
      exact J39  hf H locs hP hS ls (lv_sub hl [] rfl)
    · have hf := ifF c2 hf
      refine lv_aload_n hx hb dX16_canWalk_16 rfl (lv_at hl 0 rfl) ?_
      refine gM_57 E hK hP dX16_canWalk_17 ?_
      refine lv_aload_n hx hb dX16_canWalk_20 rfl (lv_at hl 0 rfl) ?_
      refine gM_56 (v := (σ.1 556)) E hK hP rfl dX16_canWalk_21 ?_
      obtain ⟨v3, hv3, hf⟩ := bdP hf
      refine p_iald hx hb hK hP dM_657 rfl hv3 dX16_canWalk_24 ?_
      refine lv_aload_n hx hb dX16_canWalk_25 rfl (lv_at hl 0 rfl) ?_
      refine gM_11 E hK hP dX16_canWalk_26 ?_
      refine lv_bipush hx hb dX16_canWalk_29 bp_7 ?_
      obtain ⟨v4, hv4, hf⟩ := bdP hf
      refine p_iald hx hb hK hP dM_611 rfl hv4 dX16_canWalk_31 ?_
      refine lv_icmp_eq (tgt := 39) hx hb dX16_canWalk_32 (by decide) (fun c5 => ?_) (fun c5 => ?_)
      · have hf := ifT c5 hf
        exact J39  hf H locs hP hS ls (lv_sub hl [] rfl)
      · have hf := ifF c5 hf
        refine lv_iconst hx hb dX16_canWalk_35 ic_1 ?_
        refine lv_goto (tgt := 40) hx hb dX16_canWalk_36 (by decide) ?_
        cases hf
        rw [hQ]; exact p_zret hx hb hr hlk hK hP hS rfl dX16_canWalk_40
theorem kM_canWalk (l : Launch) (D : va_G) (G : Nat → ClassId) (ad : Nat → Nat) (σ : Sto) {r_ : Int32} (hf : mo_canWalk (σ.1 554) (σ.1 556) (σ.2.2.1 611) (σ.2.2.1 657) = some r_) : CtI l D clsA G dscM ad yX16_canWalk (ws_ yX16_canWalk cX16_canWalk 1 (Option.some Jvm.ClassFile.FieldType.boolean)) rmM_canWalk [.ref (ad 500)] σ r_ σ :=
  p_ctI (by decide +kernel) (Nat.le_of_ble_eq_true rfl) (fun p e s m below meth c0 ls A E hP hK hA hS hl => wkM_canWalk E hK hA hf rfl hP hS hl)
theorem cM_canWalk (E : EN p s m args meth c0 RX16 cc nL ret) (hK : KK D clsA G s) (hP : PM D G ad σ H) (hS : va_S A s.heap H locs) (hA : ∀ q, PA dscM ad s.heap.size q → A q) {r_ : Int32} {z_walks : Int32} (e_zI554 : σ.1 554 = z_walks) {z_steps : Int32} (e_zI556 : σ.1 556 = z_steps) {a_many : Nat → Int32} (e_aI611 : σ.2.2.1 611 = a_many) {a_walkPlace : Nat → Int32} (e_aI657 : σ.2.2.1 657 = a_walkPlace) (hu : mo_canWalk z_walks z_steps a_many a_walkPlace = some r_) (hR : rmM_canWalk.frames + 1 ≤ R.frames ∧ 8 + (1 + 11) + rmM_canWalk.locals ≤ R.locals) (hcs : cells ≤ R.cells ∧ slots ≤ R.slots) (hsz : ls.size = nL) (hW : (rest.map fun v => v.category).sum ≤ 8) (hdg : decode cc pc = .ok (.invokevirtual 477, 3)) (kk : ∀ (H1 : Heap) (locs1 : List Loc), PM D G ad σ H1 → va_S A s.heap H1 locs1 → W p l e R s m args below meth c0 H1 locs1 cells slots Q (F0 m (pc + 3) ls (.int r_ :: rest))) : W p l e R s m args below meth c0 H locs cells slots Q (F0 m pc ls (.ref (ad 500) :: rest)) := by
  subst e_zI554
  subst e_zI556
  subst e_aI611
  subst e_aI657
  exact p_callI (As := []) (rest := rest) E.1 hK hP hS hA (kM_canWalk l D G ad σ hu) (cwV 0 E.1.2.2.2.2 (lw_V q2257 q2259 qs122 q142 q2260) rfl rfl rfl (by decide +kernel) hR) dM_500 rfl rfl rfl hsz rfl hW hdg hcs kk
/-! go(I)I -/
def sgM_go (σ : Sto) (w0 : Int32) (w1 : Int32) (w2 : Nat → Int32) (w3 : Nat → Int32) (w4 : Nat → Int32) : Sto := aI (aI (aI (zI (zI σ 502 w0) 556 w1) 657 w2) 658 w3) 659 w4
theorem sgM_go_self (σ : Sto) : sgM_go σ (σ.1 502) (σ.1 556) (σ.2.2.1 657) (σ.2.2.1 658) (σ.2.2.1 659) = σ := by
  unfold sgM_go
  simp only [zI_self, zL_self, aI_self, aL_self]
theorem sgM_go_zI502 {σ : Sto} {w0 : Int32} {w1 : Int32} {w2 : Nat → Int32} {w3 : Nat → Int32} {w4 : Nat → Int32} {g : Int32} : zI (sgM_go σ w0 w1 w2 w3 w4) 502 g = sgM_go σ g w1 w2 w3 w4 := (cm_zI_aI _ _ _ _ _).trans (congrArg (fun z => aI z 659 w4) ((cm_zI_aI _ _ _ _ _).trans (congrArg (fun z => aI z 658 w3) ((cm_zI_aI _ _ _ _ _).trans (congrArg (fun z => aI z 657 w2) ((zI_comm _ (by decide) _ _).trans (congrArg (fun z => zI z 556 w1) (zI_zI _ 502 _ _))))))))
theorem sgM_go_zI556 {σ : Sto} {w0 : Int32} {w1 : Int32} {w2 : Nat → Int32} {w3 : Nat → Int32} {w4 : Nat → Int32} {g : Int32} : zI (sgM_go σ w0 w1 w2 w3 w4) 556 g = sgM_go σ w0 g w2 w3 w4 := (cm_zI_aI _ _ _ _ _).trans (congrArg (fun z => aI z 659 w4) ((cm_zI_aI _ _ _ _ _).trans (congrArg (fun z => aI z 658 w3) ((cm_zI_aI _ _ _ _ _).trans (congrArg (fun z => aI z 657 w2) (zI_zI _ 556 _ _))))))
theorem sgM_go_aI657 {σ : Sto} {w0 : Int32} {w1 : Int32} {w2 : Nat → Int32} {w3 : Nat → Int32} {w4 : Nat → Int32} {g : Nat → Int32} : aI (sgM_go σ w0 w1 w2 w3 w4) 657 g = sgM_go σ w0 w1 g w3 w4 := (aI_comm _ (by decide) _ _).trans (congrArg (fun z => aI z 659 w4) ((aI_comm _ (by decide) _ _).trans (congrArg (fun z => aI z 658 w3) (aI_aI _ 657 _ _))))
theorem sgM_go_aI658 {σ : Sto} {w0 : Int32} {w1 : Int32} {w2 : Nat → Int32} {w3 : Nat → Int32} {w4 : Nat → Int32} {g : Nat → Int32} : aI (sgM_go σ w0 w1 w2 w3 w4) 658 g = sgM_go σ w0 w1 w2 g w4 := (aI_comm _ (by decide) _ _).trans (congrArg (fun z => aI z 659 w4) (aI_aI _ 658 _ _))
theorem sgM_go_aI659 {σ : Sto} {w0 : Int32} {w1 : Int32} {w2 : Nat → Int32} {w3 : Nat → Int32} {w4 : Nat → Int32} {g : Nat → Int32} : aI (sgM_go σ w0 w1 w2 w3 w4) 659 g = sgM_go σ w0 w1 w2 w3 g := aI_aI _ 659 _ _
theorem sgM_go_rzI502 {σ : Sto} {w0 : Int32} {w1 : Int32} {w2 : Nat → Int32} {w3 : Nat → Int32} {w4 : Nat → Int32} : (sgM_go σ w0 w1 w2 w3 w4).1 502 = w0 := rfl
theorem sgM_go_rzI554 {σ : Sto} {w0 : Int32} {w1 : Int32} {w2 : Nat → Int32} {w3 : Nat → Int32} {w4 : Nat → Int32} : (sgM_go σ w0 w1 w2 w3 w4).1 554 = σ.1 554 := rfl
theorem sgM_go_rzI555 {σ : Sto} {w0 : Int32} {w1 : Int32} {w2 : Nat → Int32} {w3 : Nat → Int32} {w4 : Nat → Int32} : (sgM_go σ w0 w1 w2 w3 w4).1 555 = σ.1 555 := rfl
theorem sgM_go_rzI556 {σ : Sto} {w0 : Int32} {w1 : Int32} {w2 : Nat → Int32} {w3 : Nat → Int32} {w4 : Nat → Int32} : (sgM_go σ w0 w1 w2 w3 w4).1 556 = w1 := rfl
theorem sgM_go_raI611 {σ : Sto} {w0 : Int32} {w1 : Int32} {w2 : Nat → Int32} {w3 : Nat → Int32} {w4 : Nat → Int32} : (sgM_go σ w0 w1 w2 w3 w4).2.2.1 611 = σ.2.2.1 611 := rfl
theorem sgM_go_raI615 {σ : Sto} {w0 : Int32} {w1 : Int32} {w2 : Nat → Int32} {w3 : Nat → Int32} {w4 : Nat → Int32} : (sgM_go σ w0 w1 w2 w3 w4).2.2.1 615 = σ.2.2.1 615 := rfl
theorem sgM_go_raI620 {σ : Sto} {w0 : Int32} {w1 : Int32} {w2 : Nat → Int32} {w3 : Nat → Int32} {w4 : Nat → Int32} : (sgM_go σ w0 w1 w2 w3 w4).2.2.1 620 = σ.2.2.1 620 := rfl
theorem sgM_go_raI621 {σ : Sto} {w0 : Int32} {w1 : Int32} {w2 : Nat → Int32} {w3 : Nat → Int32} {w4 : Nat → Int32} : (sgM_go σ w0 w1 w2 w3 w4).2.2.1 621 = σ.2.2.1 621 := rfl
theorem sgM_go_raI624 {σ : Sto} {w0 : Int32} {w1 : Int32} {w2 : Nat → Int32} {w3 : Nat → Int32} {w4 : Nat → Int32} : (sgM_go σ w0 w1 w2 w3 w4).2.2.1 624 = σ.2.2.1 624 := rfl
theorem sgM_go_raI657 {σ : Sto} {w0 : Int32} {w1 : Int32} {w2 : Nat → Int32} {w3 : Nat → Int32} {w4 : Nat → Int32} : (sgM_go σ w0 w1 w2 w3 w4).2.2.1 657 = w2 := rfl
theorem sgM_go_raI658 {σ : Sto} {w0 : Int32} {w1 : Int32} {w2 : Nat → Int32} {w3 : Nat → Int32} {w4 : Nat → Int32} : (sgM_go σ w0 w1 w2 w3 w4).2.2.1 658 = w3 := rfl
theorem sgM_go_raI659 {σ : Sto} {w0 : Int32} {w1 : Int32} {w2 : Nat → Int32} {w3 : Nat → Int32} {w4 : Nat → Int32} : (sgM_go σ w0 w1 w2 w3 w4).2.2.1 659 = w4 := rfl
abbrev rmM_go : Room := { frames := 2, cells := 0, slots := 0, locals := 47 }
set_option maxHeartbeats 4000000 in
theorem wkM_go {x1 : Int32} {r_ : Int32} {w_zI502 : Int32} {w_zI556 : Int32} {w_aI657 : Nat → Int32} {w_aI658 : Nat → Int32} {w_aI659 : Nat → Int32} (E : EN p s m args meth c0 RX16 cX16_go 4 (Option.some Jvm.ClassFile.FieldType.int)) (hK : KK D clsA G s) (hA : ∀ q, PA dscM ad s.heap.size q → A q) (hf : mo_go (σ.1 502) (σ.1 554) (σ.1 555) (σ.1 556) (σ.2.2.1 611) (σ.2.2.1 615) (σ.2.2.1 620) (σ.2.2.1 621) (σ.2.2.1 624) (σ.2.2.1 657) (σ.2.2.1 658) (σ.2.2.1 659) x1 = some (r_, w_zI502, w_zI556, w_aI657, w_aI658, w_aI659)) (hQ : Q = MQ below (va_Qi (fun x (_ : Unit) => x = r_) (fun _ t => PM D G ad (sgM_go σ w_zI502 w_zI556 w_aI657 w_aI658 w_aI659) t.heap ∧ KK D clsA G t) A) args s 0 0 A) (hP : PM D G ad σ H) (hS : va_S A s.heap H locs) (hl : lv_has ls 4 [(0, .ref (ad 500)), (1, .int x1)]) : W p l e rmM_go s m args below meth c0 H locs 0 0 Q (F0 m 0 ls []) := by
  obtain ⟨⟨hx, hb, hml, hown, hts⟩, hr, hlk⟩ := id E
  have hP := hP.to (sgM_go_self σ).symm
  unfold mo_go at hf
  refine lv_aload_n hx hb dX16_go_0 rfl (lv_at hl 0 rfl) ?_
  refine lv_iconst hx hb dX16_go_1 ic_0 ?_
  refine uM_2 E hK hP hS (hA _ (PA_c dM_500)) sgM_go_zI502 dX16_go_2 (fun H locs hP hS => ?_)
  refine lv_aload_n hx hb dX16_go_5 rfl (lv_at hl 0 rfl) ?_
  obtain ⟨v1, u2, hf⟩ := bdP hf
  refine cM_canWalk E hK hP hS hA sgM_go_rzI554 sgM_go_rzI556 sgM_go_raI611 sgM_go_raI657 u2 ⟨Nat.le_of_ble_eq_true rfl, Nat.le_of_ble_eq_true rfl⟩ ⟨Nat.zero_le _, Nat.zero_le _⟩ hl.1 (Nat.le_of_ble_eq_true rfl) dX16_go_6 (fun H locs hP hS => ?_)
  refine lv_if_eq (tgt := 20) hx hb dX16_go_9 (by decide) (fun c3 => ?_) (fun c3 => ?_)
  · have hf := ifT c3 hf
    refine lv_iconst hx hb dX16_go_20 ic_m1 ?_
    cases hf
    rw [hQ]; exact p_iret hx hb hr hlk hK hP hS dX16_go_21
  · have hf := ifF c3 hf
    refine lv_aload_n hx hb dX16_go_12 rfl (lv_at hl 0 rfl) ?_
    refine lv_iload_n hx hb dX16_go_13 rfl (lv_at hl 1 rfl) ?_
    obtain ⟨v4, u5, hf⟩ := bdP hf
    refine cM_isPlace E hK hP hS hA sgM_go_raI611 u5 ⟨Nat.le_of_ble_eq_true rfl, Nat.le_of_ble_eq_true rfl⟩ ⟨Nat.zero_le _, Nat.zero_le _⟩ hl.1 (Nat.le_of_ble_eq_true rfl) dX16_go_14 (fun H locs hP hS => ?_)
    refine lv_if_ne (tgt := 22) hx hb dX16_go_17 (by decide) (fun c6 => ?_) (fun c6 => ?_)
    · have hf := ifF c6 hf
      refine lv_aload_n hx hb dX16_go_22 rfl (lv_at hl 0 rfl) ?_
      refine gM_21 E hK hP dX16_go_23 ?_
      refine lv_bipush hx hb dX16_go_26 bp_10 ?_
      refine lv_aload_n hx hb dX16_go_28 rfl (lv_at hl 0 rfl) ?_
      refine gM_57 E hK hP dX16_go_29 ?_
      refine lv_aload_n hx hb dX16_go_32 rfl (lv_at hl 0 rfl) ?_
      refine gM_56 (v := (σ.1 556)) E hK hP sgM_go_rzI556 dX16_go_33 ?_
      obtain ⟨v7, hv7, hf⟩ := bdP hf
      refine p_iald hx hb hK hP dM_657 sgM_go_raI657 hv7 dX16_go_36 ?_
      refine lv_imul hx hb dX16_go_37 ?_
      refine lv_iload_n hx hb dX16_go_38 rfl (lv_at hl 1 rfl) ?_
      refine lv_iadd hx hb dX16_go_39 ?_
      obtain ⟨v8, hv8, hf⟩ := bdP hf
      refine p_iald hx hb hK hP dM_621 sgM_go_raI621 hv8 dX16_go_40 ?_
      refine lv_istore_n (lv' := [(2, .int v8), (0, .ref (ad 500)), (1, .int x1)]) hx hb dX16_go_41 rfl hl (by decide) rfl (fun ls hl => ?_)
      refine lv_iload_n hx hb dX16_go_42 rfl (lv_at hl 0 rfl) ?_
      have J64 : ∀ (k9 : Int32), mo_go_J64 (σ.1 555) (σ.1 556) (σ.2.2.1 611) (σ.2.2.1 620) (σ.2.2.1 624) (σ.2.2.1 657) (σ.2.2.1 658) (σ.2.2.1 659) x1 k9 = some (r_, w_zI502, w_zI556, w_aI657, w_aI658, w_aI659) → ∀ (H : Heap) (locs : List Loc), PM D G ad (sgM_go σ 0 (σ.1 556) (σ.2.2.1 657) (σ.2.2.1 658) (σ.2.2.1 659)) H → va_S A s.heap H locs → ∀ (ls : Array Slot), lv_has ls 4 [(0, .ref (ad 500)), (1, .int x1)] → W p l e rmM_go s m args below meth c0 H locs 0 0 Q (F0 m 64 ls [.int k9]) := by
        intro k9 hf H locs hP hS ls hl
        unfold mo_go_J64 at hf
        refine lv_istore_n (lv' := [(3, .int k9), (0, .ref (ad 500)), (1, .int x1)]) hx hb dX16_go_64 rfl hl (by decide) rfl (fun ls hl => ?_)
        refine lv_iload_n hx hb dX16_go_65 rfl (lv_at hl 0 rfl) ?_
        refine lv_if_ge (tgt := 71) hx hb dX16_go_66 (by decide) (fun c10 => ?_) (fun c10 => ?_)
        · have hf := ifT c10 hf
          refine lv_aload_n hx hb dX16_go_71 rfl (lv_at hl 1 rfl) ?_
          refine gM_57 E hK hP dX16_go_72 ?_
          refine lv_aload_n hx hb dX16_go_75 rfl (lv_at hl 1 rfl) ?_
          refine gM_56 (v := (σ.1 556)) E hK hP sgM_go_rzI556 dX16_go_76 ?_
          refine lv_iconst hx hb dX16_go_79 ic_1 ?_
          refine lv_iadd hx hb dX16_go_80 ?_
          refine lv_iload_n hx hb dX16_go_81 rfl (lv_at hl 2 rfl) ?_
          obtain ⟨a11, ha11, hf⟩ := bdP hf
          refine p_iast hx hb hK hP hS (hA _ (PA_c dM_657)) dM_657 sgM_go_raI657 ha11 sgM_go_aI657 dX16_go_82 (fun H locs hP hS => ?_)
          refine lv_aload_n hx hb dX16_go_83 rfl (lv_at hl 1 rfl) ?_
          refine gM_58 E hK hP dX16_go_84 ?_
          refine lv_aload_n hx hb dX16_go_87 rfl (lv_at hl 1 rfl) ?_
          refine gM_56 (v := (σ.1 556)) E hK hP sgM_go_rzI556 dX16_go_88 ?_
          refine lv_iconst hx hb dX16_go_91 ic_1 ?_
          refine lv_iadd hx hb dX16_go_92 ?_
          refine lv_aload_n hx hb dX16_go_93 rfl (lv_at hl 1 rfl) ?_
          refine gM_58 E hK hP dX16_go_94 ?_
          refine lv_aload_n hx hb dX16_go_97 rfl (lv_at hl 1 rfl) ?_
          refine gM_56 (v := (σ.1 556)) E hK hP sgM_go_rzI556 dX16_go_98 ?_
          obtain ⟨v12, hv12, hf⟩ := bdP hf
          refine p_iald hx hb hK hP dM_658 sgM_go_raI658 hv12 dX16_go_101 ?_
          refine lv_iload_n hx hb dX16_go_102 rfl (lv_at hl 0 rfl) ?_
          refine lv_iadd hx hb dX16_go_103 ?_
          obtain ⟨a13, ha13, hf⟩ := bdP hf
          refine p_iast hx hb hK hP hS (hA _ (PA_c dM_658)) dM_658 sgM_go_raI658 ha13 sgM_go_aI658 dX16_go_104 (fun H locs hP hS => ?_)
          refine lv_aload_n hx hb dX16_go_105 rfl (lv_at hl 1 rfl) ?_
          refine gM_59 E hK hP dX16_go_106 ?_
          refine lv_aload_n hx hb dX16_go_109 rfl (lv_at hl 1 rfl) ?_
          refine gM_56 (v := (σ.1 556)) E hK hP sgM_go_rzI556 dX16_go_110 ?_
          refine lv_iconst hx hb dX16_go_113 ic_1 ?_
          refine lv_iadd hx hb dX16_go_114 ?_
          refine lv_aload_n hx hb dX16_go_115 rfl (lv_at hl 1 rfl) ?_
          refine lv_iload_n hx hb dX16_go_116 rfl (lv_at hl 2 rfl) ?_
          refine lv_aload_n hx hb dX16_go_117 rfl (lv_at hl 1 rfl) ?_
          refine gM_59 E hK hP dX16_go_118 ?_
          refine lv_aload_n hx hb dX16_go_121 rfl (lv_at hl 1 rfl) ?_
          refine gM_56 (v := (σ.1 556)) E hK hP sgM_go_rzI556 dX16_go_122 ?_
          obtain ⟨v14, hv14, hf⟩ := bdP hf
          refine p_iald hx hb hK hP dM_659 sgM_go_raI659 hv14 dX16_go_125 ?_
          refine lv_aload_n hx hb dX16_go_126 rfl (lv_at hl 1 rfl) ?_
          refine gM_55 (v := (σ.1 555)) E hK hP sgM_go_rzI555 dX16_go_127 ?_
          obtain ⟨v15, u16, hf⟩ := bdP hf
          refine cM_learns E hK hP hS hA sgM_go_raI611 sgM_go_raI620 sgM_go_raI624 u16 ⟨Nat.le_of_ble_eq_true rfl, Nat.le_of_ble_eq_true rfl⟩ ⟨Nat.zero_le _, Nat.zero_le _⟩ hl.1 (Nat.le_of_ble_eq_true rfl) dX16_go_130 (fun H locs hP hS => ?_)
          obtain ⟨a17, ha17, hf⟩ := bdP hf
          refine p_iast hx hb hK hP hS (hA _ (PA_c dM_659)) dM_659 sgM_go_raI659 ha17 sgM_go_aI659 dX16_go_133 (fun H locs hP hS => ?_)
          refine lv_aload_n hx hb dX16_go_134 rfl (lv_at hl 1 rfl) ?_
          refine lv_dup hx hb dX16_go_135 rfl ?_
          refine gM_56 (v := (σ.1 556)) E hK hP sgM_go_rzI556 dX16_go_136 ?_
          refine lv_iconst hx hb dX16_go_139 ic_1 ?_
          refine lv_iadd hx hb dX16_go_140 ?_
          obtain ⟨v18, hv18, hf⟩ := bdP hf
          refine nm_i (Option.some.inj hv18) ?_
          refine uM_56 E hK hP hS (hA _ (PA_c dM_500)) sgM_go_zI556 dX16_go_141 (fun H locs hP hS => ?_)
          refine lv_aload_n hx hb dX16_go_144 rfl (lv_at hl 1 rfl) ?_
          refine gM_58 E hK hP dX16_go_145 ?_
          refine lv_aload_n hx hb dX16_go_148 rfl (lv_at hl 1 rfl) ?_
          refine gM_56 (v := v18) E hK hP sgM_go_rzI556 dX16_go_149 ?_
          obtain ⟨v19, hv19, hf⟩ := bdP hf
          refine p_iald hx hb hK hP dM_658 sgM_go_raI658 hv19 dX16_go_152 ?_
          cases hf
          rw [hQ]; exact p_iret hx hb hr hlk hK hP hS dX16_go_153
        · have hf := ifF c10 hf
          refine lv_iconst hx hb dX16_go_69 ic_m1 ?_
          cases hf
          rw [hQ]; exact p_iret hx hb hr hlk hK hP hS dX16_go_70
      refine lv_if_ge (tgt := 50) hx hb dX16_go_43 (by decide) (fun c20 => ?_) (fun c20 => ?_)
      · have hf := ifT c20 hf
        refine lv_aload_n hx hb dX16_go_50 rfl (lv_at hl 1 rfl) ?_
        refine lv_iload_n hx hb dX16_go_51 rfl (lv_at hl 0 rfl) ?_
        refine lv_aload_n hx hb dX16_go_52 rfl (lv_at hl 1 rfl) ?_
        refine gM_59 E hK hP dX16_go_53 ?_
        refine lv_aload_n hx hb dX16_go_56 rfl (lv_at hl 1 rfl) ?_
        refine gM_56 (v := (σ.1 556)) E hK hP sgM_go_rzI556 dX16_go_57 ?_
        obtain ⟨v21, hv21, hf⟩ := bdP hf
        refine p_iald hx hb hK hP dM_659 sgM_go_raI659 hv21 dX16_go_60 ?_
        obtain ⟨v22, u23, hf⟩ := bdP hf
        refine cM_hoursOf E hK hP hS hA sgM_go_raI615 sgM_go_raI624 u23 ⟨Nat.le_of_ble_eq_true rfl, Nat.le_of_ble_eq_true rfl⟩ ⟨Nat.zero_le _, Nat.zero_le _⟩ hl.1 (Nat.le_of_ble_eq_true rfl) dX16_go_61 (fun H locs hP hS => ?_)
        exact J64 v22 hf H locs hP hS ls (lv_sub hl [1, 2] rfl)
      · have hf := ifF c20 hf
        refine lv_iconst hx hb dX16_go_46 ic_m1 ?_
        refine lv_goto (tgt := 64) hx hb dX16_go_47 (by decide) ?_
        exact J64 (-1) hf H locs hP hS ls (lv_sub hl [1, 2] rfl)
    · have hf := ifT c6 hf
      refine lv_iconst hx hb dX16_go_20 ic_m1 ?_
      cases hf
      rw [hQ]; exact p_iret hx hb hr hlk hK hP hS dX16_go_21
theorem kM_go (l : Launch) (D : va_G) (G : Nat → ClassId) (ad : Nat → Nat) (σ : Sto) {x1 : Int32} {r_ : Int32} {w_zI502 : Int32} {w_zI556 : Int32} {w_aI657 : Nat → Int32} {w_aI658 : Nat → Int32} {w_aI659 : Nat → Int32} (hf : mo_go (σ.1 502) (σ.1 554) (σ.1 555) (σ.1 556) (σ.2.2.1 611) (σ.2.2.1 615) (σ.2.2.1 620) (σ.2.2.1 621) (σ.2.2.1 624) (σ.2.2.1 657) (σ.2.2.1 658) (σ.2.2.1 659) x1 = some (r_, w_zI502, w_zI556, w_aI657, w_aI658, w_aI659)) : CtI l D clsA G dscM ad yX16_go (ws_ yX16_go cX16_go 4 (Option.some Jvm.ClassFile.FieldType.int)) rmM_go [.ref (ad 500), .int x1] σ r_ (sgM_go σ w_zI502 w_zI556 w_aI657 w_aI658 w_aI659) :=
  p_ctI (by decide +kernel) (Nat.le_of_ble_eq_true rfl) (fun p e s m below meth c0 ls A E hP hK hA hS hl => wkM_go E hK hA hf rfl hP hS hl)
/-! buy(I)I -/
def sgM_buy (σ : Sto) (w0 : Int32) (w1 : Int32) (w2 : Nat → Int32) (w3 : Nat → Int32) (w4 : Nat → Int32) : Sto := aI (aI (aI (zI (zI σ 502 w0) 556 w1) 657 w2) 658 w3) 659 w4
theorem sgM_buy_self (σ : Sto) : sgM_buy σ (σ.1 502) (σ.1 556) (σ.2.2.1 657) (σ.2.2.1 658) (σ.2.2.1 659) = σ := by
  unfold sgM_buy
  simp only [zI_self, zL_self, aI_self, aL_self]
theorem sgM_buy_zI502 {σ : Sto} {w0 : Int32} {w1 : Int32} {w2 : Nat → Int32} {w3 : Nat → Int32} {w4 : Nat → Int32} {g : Int32} : zI (sgM_buy σ w0 w1 w2 w3 w4) 502 g = sgM_buy σ g w1 w2 w3 w4 := (cm_zI_aI _ _ _ _ _).trans (congrArg (fun z => aI z 659 w4) ((cm_zI_aI _ _ _ _ _).trans (congrArg (fun z => aI z 658 w3) ((cm_zI_aI _ _ _ _ _).trans (congrArg (fun z => aI z 657 w2) ((zI_comm _ (by decide) _ _).trans (congrArg (fun z => zI z 556 w1) (zI_zI _ 502 _ _))))))))
theorem sgM_buy_zI556 {σ : Sto} {w0 : Int32} {w1 : Int32} {w2 : Nat → Int32} {w3 : Nat → Int32} {w4 : Nat → Int32} {g : Int32} : zI (sgM_buy σ w0 w1 w2 w3 w4) 556 g = sgM_buy σ w0 g w2 w3 w4 := (cm_zI_aI _ _ _ _ _).trans (congrArg (fun z => aI z 659 w4) ((cm_zI_aI _ _ _ _ _).trans (congrArg (fun z => aI z 658 w3) ((cm_zI_aI _ _ _ _ _).trans (congrArg (fun z => aI z 657 w2) (zI_zI _ 556 _ _))))))
theorem sgM_buy_aI657 {σ : Sto} {w0 : Int32} {w1 : Int32} {w2 : Nat → Int32} {w3 : Nat → Int32} {w4 : Nat → Int32} {g : Nat → Int32} : aI (sgM_buy σ w0 w1 w2 w3 w4) 657 g = sgM_buy σ w0 w1 g w3 w4 := (aI_comm _ (by decide) _ _).trans (congrArg (fun z => aI z 659 w4) ((aI_comm _ (by decide) _ _).trans (congrArg (fun z => aI z 658 w3) (aI_aI _ 657 _ _))))
theorem sgM_buy_aI658 {σ : Sto} {w0 : Int32} {w1 : Int32} {w2 : Nat → Int32} {w3 : Nat → Int32} {w4 : Nat → Int32} {g : Nat → Int32} : aI (sgM_buy σ w0 w1 w2 w3 w4) 658 g = sgM_buy σ w0 w1 w2 g w4 := (aI_comm _ (by decide) _ _).trans (congrArg (fun z => aI z 659 w4) (aI_aI _ 658 _ _))
theorem sgM_buy_aI659 {σ : Sto} {w0 : Int32} {w1 : Int32} {w2 : Nat → Int32} {w3 : Nat → Int32} {w4 : Nat → Int32} {g : Nat → Int32} : aI (sgM_buy σ w0 w1 w2 w3 w4) 659 g = sgM_buy σ w0 w1 w2 w3 g := aI_aI _ 659 _ _
theorem sgM_buy_rzI502 {σ : Sto} {w0 : Int32} {w1 : Int32} {w2 : Nat → Int32} {w3 : Nat → Int32} {w4 : Nat → Int32} : (sgM_buy σ w0 w1 w2 w3 w4).1 502 = w0 := rfl
theorem sgM_buy_rzI554 {σ : Sto} {w0 : Int32} {w1 : Int32} {w2 : Nat → Int32} {w3 : Nat → Int32} {w4 : Nat → Int32} : (sgM_buy σ w0 w1 w2 w3 w4).1 554 = σ.1 554 := rfl
theorem sgM_buy_rzI555 {σ : Sto} {w0 : Int32} {w1 : Int32} {w2 : Nat → Int32} {w3 : Nat → Int32} {w4 : Nat → Int32} : (sgM_buy σ w0 w1 w2 w3 w4).1 555 = σ.1 555 := rfl
theorem sgM_buy_rzI556 {σ : Sto} {w0 : Int32} {w1 : Int32} {w2 : Nat → Int32} {w3 : Nat → Int32} {w4 : Nat → Int32} : (sgM_buy σ w0 w1 w2 w3 w4).1 556 = w1 := rfl
theorem sgM_buy_raI611 {σ : Sto} {w0 : Int32} {w1 : Int32} {w2 : Nat → Int32} {w3 : Nat → Int32} {w4 : Nat → Int32} : (sgM_buy σ w0 w1 w2 w3 w4).2.2.1 611 = σ.2.2.1 611 := rfl
theorem sgM_buy_raI618 {σ : Sto} {w0 : Int32} {w1 : Int32} {w2 : Nat → Int32} {w3 : Nat → Int32} {w4 : Nat → Int32} : (sgM_buy σ w0 w1 w2 w3 w4).2.2.1 618 = σ.2.2.1 618 := rfl
theorem sgM_buy_raI624 {σ : Sto} {w0 : Int32} {w1 : Int32} {w2 : Nat → Int32} {w3 : Nat → Int32} {w4 : Nat → Int32} : (sgM_buy σ w0 w1 w2 w3 w4).2.2.1 624 = σ.2.2.1 624 := rfl
theorem sgM_buy_raI657 {σ : Sto} {w0 : Int32} {w1 : Int32} {w2 : Nat → Int32} {w3 : Nat → Int32} {w4 : Nat → Int32} : (sgM_buy σ w0 w1 w2 w3 w4).2.2.1 657 = w2 := rfl
theorem sgM_buy_raI658 {σ : Sto} {w0 : Int32} {w1 : Int32} {w2 : Nat → Int32} {w3 : Nat → Int32} {w4 : Nat → Int32} : (sgM_buy σ w0 w1 w2 w3 w4).2.2.1 658 = w3 := rfl
theorem sgM_buy_raI659 {σ : Sto} {w0 : Int32} {w1 : Int32} {w2 : Nat → Int32} {w3 : Nat → Int32} {w4 : Nat → Int32} : (sgM_buy σ w0 w1 w2 w3 w4).2.2.1 659 = w4 := rfl
abbrev rmM_buy : Room := { frames := 2, cells := 0, slots := 0, locals := 45 }
set_option maxHeartbeats 4000000 in
theorem wkM_buy {x1 : Int32} {r_ : Int32} {w_zI502 : Int32} {w_zI556 : Int32} {w_aI657 : Nat → Int32} {w_aI658 : Nat → Int32} {w_aI659 : Nat → Int32} (E : EN p s m args meth c0 RX16 cX16_buy 4 (Option.some Jvm.ClassFile.FieldType.int)) (hK : KK D clsA G s) (hA : ∀ q, PA dscM ad s.heap.size q → A q) (hf : mo_buy (σ.1 502) (σ.1 554) (σ.1 555) (σ.1 556) (σ.2.2.1 611) (σ.2.2.1 618) (σ.2.2.1 624) (σ.2.2.1 657) (σ.2.2.1 658) (σ.2.2.1 659) x1 = some (r_, w_zI502, w_zI556, w_aI657, w_aI658, w_aI659)) (hQ : Q = MQ below (va_Qi (fun x (_ : Unit) => x = r_) (fun _ t => PM D G ad (sgM_buy σ w_zI502 w_zI556 w_aI657 w_aI658 w_aI659) t.heap ∧ KK D clsA G t) A) args s 0 0 A) (hP : PM D G ad σ H) (hS : va_S A s.heap H locs) (hl : lv_has ls 4 [(0, .ref (ad 500)), (1, .int x1)]) : W p l e rmM_buy s m args below meth c0 H locs 0 0 Q (F0 m 0 ls []) := by
  obtain ⟨⟨hx, hb, hml, hown, hts⟩, hr, hlk⟩ := id E
  have hP := hP.to (sgM_buy_self σ).symm
  unfold mo_buy at hf
  refine lv_aload_n hx hb dX16_buy_0 rfl (lv_at hl 0 rfl) ?_
  refine lv_iconst hx hb dX16_buy_1 ic_0 ?_
  refine uM_2 E hK hP hS (hA _ (PA_c dM_500)) sgM_buy_zI502 dX16_buy_2 (fun H locs hP hS => ?_)
  refine lv_aload_n hx hb dX16_buy_5 rfl (lv_at hl 0 rfl) ?_
  obtain ⟨v1, u2, hf⟩ := bdP hf
  refine cM_canWalk E hK hP hS hA sgM_buy_rzI554 sgM_buy_rzI556 sgM_buy_raI611 sgM_buy_raI657 u2 ⟨Nat.le_of_ble_eq_true rfl, Nat.le_of_ble_eq_true rfl⟩ ⟨Nat.zero_le _, Nat.zero_le _⟩ hl.1 (Nat.le_of_ble_eq_true rfl) dX16_buy_6 (fun H locs hP hS => ?_)
  refine lv_if_eq (tgt := 52) hx hb dX16_buy_9 (by decide) (fun c3 => ?_) (fun c3 => ?_)
  · have hf := ifT c3 hf
    refine lv_iconst hx hb dX16_buy_52 ic_m1 ?_
    cases hf
    rw [hQ]; exact p_iret hx hb hr hlk hK hP hS dX16_buy_53
  · have hf := ifF c3 hf
    refine lv_iload_n hx hb dX16_buy_12 rfl (lv_at hl 1 rfl) ?_
    refine lv_if_lt (tgt := 52) hx hb dX16_buy_13 (by decide) (fun c4 => ?_) (fun c4 => ?_)
    · have hf := ifT c4 hf
      refine lv_iconst hx hb dX16_buy_52 ic_m1 ?_
      cases hf
      rw [hQ]; exact p_iret hx hb hr hlk hK hP hS dX16_buy_53
    · have hf := ifF c4 hf
      refine lv_iload_n hx hb dX16_buy_16 rfl (lv_at hl 1 rfl) ?_
      refine lv_aload_n hx hb dX16_buy_17 rfl (lv_at hl 0 rfl) ?_
      refine gM_11 E hK hP dX16_buy_18 ?_
      refine lv_iconst hx hb dX16_buy_21 ic_5 ?_
      obtain ⟨v5, hv5, hf⟩ := bdP hf
      refine p_iald hx hb hK hP dM_611 sgM_buy_raI611 hv5 dX16_buy_22 ?_
      refine lv_icmp_ge (tgt := 52) hx hb dX16_buy_23 (by decide) (fun c6 => ?_) (fun c6 => ?_)
      · have hf := ifT c6 hf
        refine lv_iconst hx hb dX16_buy_52 ic_m1 ?_
        cases hf
        rw [hQ]; exact p_iret hx hb hr hlk hK hP hS dX16_buy_53
      · have hf := ifF c6 hf
        refine lv_aload_n hx hb dX16_buy_26 rfl (lv_at hl 0 rfl) ?_
        refine lv_iload_n hx hb dX16_buy_27 rfl (lv_at hl 1 rfl) ?_
        refine lv_aload_n hx hb dX16_buy_28 rfl (lv_at hl 0 rfl) ?_
        refine gM_57 E hK hP dX16_buy_29 ?_
        refine lv_aload_n hx hb dX16_buy_32 rfl (lv_at hl 0 rfl) ?_
        refine gM_56 (v := (σ.1 556)) E hK hP sgM_buy_rzI556 dX16_buy_33 ?_
        obtain ⟨v7, hv7, hf⟩ := bdP hf
        refine p_iald hx hb hK hP dM_657 sgM_buy_raI657 hv7 dX16_buy_36 ?_
        refine lv_aload_n hx hb dX16_buy_37 rfl (lv_at hl 0 rfl) ?_
        refine gM_59 E hK hP dX16_buy_38 ?_
        refine lv_aload_n hx hb dX16_buy_41 rfl (lv_at hl 0 rfl) ?_
        refine gM_56 (v := (σ.1 556)) E hK hP sgM_buy_rzI556 dX16_buy_42 ?_
        obtain ⟨v8, hv8, hf⟩ := bdP hf
        refine p_iald hx hb hK hP dM_659 sgM_buy_raI659 hv8 dX16_buy_45 ?_
        obtain ⟨v9, u10, hf⟩ := bdP hf
        refine cM_isSold E hK hP hS hA sgM_buy_raI618 sgM_buy_raI624 u10 ⟨Nat.le_of_ble_eq_true rfl, Nat.le_of_ble_eq_true rfl⟩ ⟨Nat.zero_le _, Nat.zero_le _⟩ hl.1 (Nat.le_of_ble_eq_true rfl) dX16_buy_46 (fun H locs hP hS => ?_)
        refine lv_if_ne (tgt := 54) hx hb dX16_buy_49 (by decide) (fun c11 => ?_) (fun c11 => ?_)
        · have hf := ifF c11 hf
          refine lv_aload_n hx hb dX16_buy_54 rfl (lv_at hl 0 rfl) ?_
          refine gM_18 E hK hP dX16_buy_55 ?_
          refine lv_iconst hx hb dX16_buy_58 ic_3 ?_
          refine lv_iload_n hx hb dX16_buy_59 rfl (lv_at hl 1 rfl) ?_
          refine lv_imul hx hb dX16_buy_60 ?_
          refine lv_iconst hx hb dX16_buy_61 ic_1 ?_
          refine lv_iadd hx hb dX16_buy_62 ?_
          obtain ⟨v12, hv12, hf⟩ := bdP hf
          refine p_iald hx hb hK hP dM_618 sgM_buy_raI618 hv12 dX16_buy_63 ?_
          refine lv_istore_n (lv' := [(2, .int v12), (0, .ref (ad 500)), (1, .int x1)]) hx hb dX16_buy_64 rfl hl (by decide) rfl (fun ls hl => ?_)
          refine lv_aload_n hx hb dX16_buy_65 rfl (lv_at hl 1 rfl) ?_
          refine gM_55 (v := (σ.1 555)) E hK hP sgM_buy_rzI555 dX16_buy_66 ?_
          refine lv_iload_n hx hb dX16_buy_69 rfl (lv_at hl 0 rfl) ?_
          refine lv_ishr hx hb dX16_buy_70 ?_
          refine lv_iconst hx hb dX16_buy_71 ic_1 ?_
          refine lv_iand hx hb dX16_buy_72 ?_
          refine lv_iconst hx hb dX16_buy_73 ic_1 ?_
          refine lv_iadd hx hb dX16_buy_74 ?_
          obtain ⟨v13, hv13, hf⟩ := bdP hf
          refine nm_i (Option.some.inj hv13) ?_
          refine lv_istore_n (lv' := [(3, .int v13), (2, .int v12), (0, .ref (ad 500)), (1, .int x1)]) hx hb dX16_buy_75 rfl hl (by decide) rfl (fun ls hl => ?_)
          refine lv_aload_n hx hb dX16_buy_76 rfl (lv_at hl 2 rfl) ?_
          refine gM_57 E hK hP dX16_buy_77 ?_
          refine lv_aload_n hx hb dX16_buy_80 rfl (lv_at hl 2 rfl) ?_
          refine gM_56 (v := (σ.1 556)) E hK hP sgM_buy_rzI556 dX16_buy_81 ?_
          refine lv_iconst hx hb dX16_buy_84 ic_1 ?_
          refine lv_iadd hx hb dX16_buy_85 ?_
          refine lv_aload_n hx hb dX16_buy_86 rfl (lv_at hl 2 rfl) ?_
          refine gM_57 E hK hP dX16_buy_87 ?_
          refine lv_aload_n hx hb dX16_buy_90 rfl (lv_at hl 2 rfl) ?_
          refine gM_56 (v := (σ.1 556)) E hK hP sgM_buy_rzI556 dX16_buy_91 ?_
          obtain ⟨v14, hv14, hf⟩ := bdP hf
          refine p_iald hx hb hK hP dM_657 sgM_buy_raI657 hv14 dX16_buy_94 ?_
          obtain ⟨a15, ha15, hf⟩ := bdP hf
          refine p_iast hx hb hK hP hS (hA _ (PA_c dM_657)) dM_657 sgM_buy_raI657 ha15 sgM_buy_aI657 dX16_buy_95 (fun H locs hP hS => ?_)
          refine lv_aload_n hx hb dX16_buy_96 rfl (lv_at hl 2 rfl) ?_
          refine gM_58 E hK hP dX16_buy_97 ?_
          refine lv_aload_n hx hb dX16_buy_100 rfl (lv_at hl 2 rfl) ?_
          refine gM_56 (v := (σ.1 556)) E hK hP sgM_buy_rzI556 dX16_buy_101 ?_
          refine lv_iconst hx hb dX16_buy_104 ic_1 ?_
          refine lv_iadd hx hb dX16_buy_105 ?_
          refine lv_aload_n hx hb dX16_buy_106 rfl (lv_at hl 2 rfl) ?_
          refine gM_58 E hK hP dX16_buy_107 ?_
          refine lv_aload_n hx hb dX16_buy_110 rfl (lv_at hl 2 rfl) ?_
          refine gM_56 (v := (σ.1 556)) E hK hP sgM_buy_rzI556 dX16_buy_111 ?_
          obtain ⟨v16, hv16, hf⟩ := bdP hf
          refine p_iald hx hb hK hP dM_658 sgM_buy_raI658 hv16 dX16_buy_114 ?_
          refine lv_aload_n hx hb dX16_buy_115 rfl (lv_at hl 2 rfl) ?_
          refine gM_18 E hK hP dX16_buy_116 ?_
          refine lv_iconst hx hb dX16_buy_119 ic_3 ?_
          refine lv_iload_n hx hb dX16_buy_120 rfl (lv_at hl 3 rfl) ?_
          refine lv_imul hx hb dX16_buy_121 ?_
          refine lv_iconst hx hb dX16_buy_122 ic_2 ?_
          refine lv_iadd hx hb dX16_buy_123 ?_
          obtain ⟨v17, hv17, hf⟩ := bdP hf
          refine p_iald hx hb hK hP dM_618 sgM_buy_raI618 hv17 dX16_buy_124 ?_
          refine lv_iadd hx hb dX16_buy_125 ?_
          obtain ⟨a18, ha18, hf⟩ := bdP hf
          refine p_iast hx hb hK hP hS (hA _ (PA_c dM_658)) dM_658 sgM_buy_raI658 ha18 sgM_buy_aI658 dX16_buy_126 (fun H locs hP hS => ?_)
          refine lv_aload_n hx hb dX16_buy_127 rfl (lv_at hl 2 rfl) ?_
          refine gM_59 E hK hP dX16_buy_128 ?_
          refine lv_aload_n hx hb dX16_buy_131 rfl (lv_at hl 2 rfl) ?_
          refine gM_56 (v := (σ.1 556)) E hK hP sgM_buy_rzI556 dX16_buy_132 ?_
          refine lv_iconst hx hb dX16_buy_135 ic_1 ?_
          refine lv_iadd hx hb dX16_buy_136 ?_
          refine lv_aload_n hx hb dX16_buy_137 rfl (lv_at hl 2 rfl) ?_
          refine gM_59 E hK hP dX16_buy_138 ?_
          refine lv_aload_n hx hb dX16_buy_141 rfl (lv_at hl 2 rfl) ?_
          refine gM_56 (v := (σ.1 556)) E hK hP sgM_buy_rzI556 dX16_buy_142 ?_
          obtain ⟨v19, hv19, hf⟩ := bdP hf
          refine p_iald hx hb hK hP dM_659 sgM_buy_raI659 hv19 dX16_buy_145 ?_
          refine lv_iload_n hx hb dX16_buy_146 rfl (lv_at hl 0 rfl) ?_
          refine lv_aload_n hx hb dX16_buy_147 rfl (lv_at hl 2 rfl) ?_
          refine gM_24 E hK hP dX16_buy_148 ?_
          refine lv_iload_n hx hb dX16_buy_151 rfl (lv_at hl 1 rfl) ?_
          obtain ⟨v20, hv20, hf⟩ := bdP hf
          refine p_iald hx hb hK hP dM_624 sgM_buy_raI624 hv20 dX16_buy_152 ?_
          refine lv_imul hx hb dX16_buy_153 ?_
          refine lv_iadd hx hb dX16_buy_154 ?_
          obtain ⟨a21, ha21, hf⟩ := bdP hf
          refine p_iast hx hb hK hP hS (hA _ (PA_c dM_659)) dM_659 sgM_buy_raI659 ha21 sgM_buy_aI659 dX16_buy_155 (fun H locs hP hS => ?_)
          refine lv_aload_n hx hb dX16_buy_156 rfl (lv_at hl 2 rfl) ?_
          refine lv_dup hx hb dX16_buy_157 rfl ?_
          refine gM_56 (v := (σ.1 556)) E hK hP sgM_buy_rzI556 dX16_buy_158 ?_
          refine lv_iconst hx hb dX16_buy_161 ic_1 ?_
          refine lv_iadd hx hb dX16_buy_162 ?_
          obtain ⟨v22, hv22, hf⟩ := bdP hf
          refine nm_i (Option.some.inj hv22) ?_
          refine uM_56 E hK hP hS (hA _ (PA_c dM_500)) sgM_buy_zI556 dX16_buy_163 (fun H locs hP hS => ?_)
          refine lv_iload_n hx hb dX16_buy_166 rfl (lv_at hl 0 rfl) ?_
          cases hf
          rw [hQ]; exact p_iret hx hb hr hlk hK hP hS dX16_buy_167
        · have hf := ifT c11 hf
          refine lv_iconst hx hb dX16_buy_52 ic_m1 ?_
          cases hf
          rw [hQ]; exact p_iret hx hb hr hlk hK hP hS dX16_buy_53
theorem kM_buy (l : Launch) (D : va_G) (G : Nat → ClassId) (ad : Nat → Nat) (σ : Sto) {x1 : Int32} {r_ : Int32} {w_zI502 : Int32} {w_zI556 : Int32} {w_aI657 : Nat → Int32} {w_aI658 : Nat → Int32} {w_aI659 : Nat → Int32} (hf : mo_buy (σ.1 502) (σ.1 554) (σ.1 555) (σ.1 556) (σ.2.2.1 611) (σ.2.2.1 618) (σ.2.2.1 624) (σ.2.2.1 657) (σ.2.2.1 658) (σ.2.2.1 659) x1 = some (r_, w_zI502, w_zI556, w_aI657, w_aI658, w_aI659)) : CtI l D clsA G dscM ad yX16_buy (ws_ yX16_buy cX16_buy 4 (Option.some Jvm.ClassFile.FieldType.int)) rmM_buy [.ref (ad 500), .int x1] σ r_ (sgM_buy σ w_zI502 w_zI556 w_aI657 w_aI658 w_aI659) :=
  p_ctI (by decide +kernel) (Nat.le_of_ble_eq_true rfl) (fun p e s m below meth c0 ls A E hP hK hA hS hl => wkM_buy E hK hA hf rfl hP hS hl)
/-! back()I -/
def sgM_back (σ : Sto) (w0 : Int32) (w1 : Int32) : Sto := zI (zI σ 502 w0) 556 w1
theorem sgM_back_self (σ : Sto) : sgM_back σ (σ.1 502) (σ.1 556) = σ := by
  unfold sgM_back
  simp only [zI_self, zL_self, aI_self, aL_self]
theorem sgM_back_zI502 {σ : Sto} {w0 : Int32} {w1 : Int32} {g : Int32} : zI (sgM_back σ w0 w1) 502 g = sgM_back σ g w1 := (zI_comm _ (by decide) _ _).trans (congrArg (fun z => zI z 556 w1) (zI_zI _ 502 _ _))
theorem sgM_back_zI556 {σ : Sto} {w0 : Int32} {w1 : Int32} {g : Int32} : zI (sgM_back σ w0 w1) 556 g = sgM_back σ w0 g := zI_zI _ 556 _ _
theorem sgM_back_rzI502 {σ : Sto} {w0 : Int32} {w1 : Int32} : (sgM_back σ w0 w1).1 502 = w0 := rfl
theorem sgM_back_rzI554 {σ : Sto} {w0 : Int32} {w1 : Int32} : (sgM_back σ w0 w1).1 554 = σ.1 554 := rfl
theorem sgM_back_rzI556 {σ : Sto} {w0 : Int32} {w1 : Int32} : (sgM_back σ w0 w1).1 556 = w1 := rfl
abbrev rmM_back : Room := { frames := 0, cells := 0, slots := 0, locals := 0 }
set_option maxHeartbeats 4000000 in
theorem wkM_back  {r_ : Int32} {w_zI502 : Int32} {w_zI556 : Int32} (E : EN p s m args meth c0 RX16 cX16_back 1 (Option.some Jvm.ClassFile.FieldType.int)) (hK : KK D clsA G s) (hA : ∀ q, PA dscM ad s.heap.size q → A q) (hf : mo_back (σ.1 502) (σ.1 554) (σ.1 556) = some (r_, w_zI502, w_zI556)) (hQ : Q = MQ below (va_Qi (fun x (_ : Unit) => x = r_) (fun _ t => PM D G ad (sgM_back σ w_zI502 w_zI556) t.heap ∧ KK D clsA G t) A) args s 0 0 A) (hP : PM D G ad σ H) (hS : va_S A s.heap H locs) (hl : lv_has ls 1 [(0, .ref (ad 500))]) : W p l e rmM_back s m args below meth c0 H locs 0 0 Q (F0 m 0 ls []) := by
  obtain ⟨⟨hx, hb, hml, hown, hts⟩, hr, hlk⟩ := id E
  have hP := hP.to (sgM_back_self σ).symm
  unfold mo_back at hf
  refine lv_aload_n hx hb dX16_back_0 rfl (lv_at hl 0 rfl) ?_
  refine lv_iconst hx hb dX16_back_1 ic_0 ?_
  refine uM_2 E hK hP hS (hA _ (PA_c dM_500)) sgM_back_zI502 dX16_back_2 (fun H locs hP hS => ?_)
  refine lv_aload_n hx hb dX16_back_5 rfl (lv_at hl 0 rfl) ?_
  refine gM_54 (v := (σ.1 554)) E hK hP sgM_back_rzI554 dX16_back_6 ?_
  refine lv_if_eq (tgt := 19) hx hb dX16_back_9 (by decide) (fun c1 => ?_) (fun c1 => ?_)
  · have hf := ifT c1 hf
    refine lv_iconst hx hb dX16_back_19 ic_m1 ?_
    cases hf
    rw [hQ]; exact p_iret hx hb hr hlk hK hP hS dX16_back_20
  · have hf := ifF c1 hf
    refine lv_aload_n hx hb dX16_back_12 rfl (lv_at hl 0 rfl) ?_
    refine gM_56 (v := (σ.1 556)) E hK hP sgM_back_rzI556 dX16_back_13 ?_
    refine lv_if_ne (tgt := 21) hx hb dX16_back_16 (by decide) (fun c2 => ?_) (fun c2 => ?_)
    · have hf := ifF c2 hf
      refine lv_aload_n hx hb dX16_back_21 rfl (lv_at hl 0 rfl) ?_
      refine lv_dup hx hb dX16_back_22 rfl ?_
      refine gM_56 (v := (σ.1 556)) E hK hP sgM_back_rzI556 dX16_back_23 ?_
      refine lv_iconst hx hb dX16_back_26 ic_1 ?_
      refine lv_isub hx hb dX16_back_27 ?_
      obtain ⟨v3, hv3, hf⟩ := bdP hf
      refine nm_i (Option.some.inj hv3) ?_
      refine uM_56 E hK hP hS (hA _ (PA_c dM_500)) sgM_back_zI556 dX16_back_28 (fun H locs hP hS => ?_)
      refine lv_aload_n hx hb dX16_back_31 rfl (lv_at hl 0 rfl) ?_
      refine gM_56 (v := v3) E hK hP sgM_back_rzI556 dX16_back_32 ?_
      cases hf
      rw [hQ]; exact p_iret hx hb hr hlk hK hP hS dX16_back_35
    · have hf := ifT c2 hf
      refine lv_iconst hx hb dX16_back_19 ic_m1 ?_
      cases hf
      rw [hQ]; exact p_iret hx hb hr hlk hK hP hS dX16_back_20
theorem kM_back (l : Launch) (D : va_G) (G : Nat → ClassId) (ad : Nat → Nat) (σ : Sto) {r_ : Int32} {w_zI502 : Int32} {w_zI556 : Int32} (hf : mo_back (σ.1 502) (σ.1 554) (σ.1 556) = some (r_, w_zI502, w_zI556)) : CtI l D clsA G dscM ad yX16_back (ws_ yX16_back cX16_back 1 (Option.some Jvm.ClassFile.FieldType.int)) rmM_back [.ref (ad 500)] σ r_ (sgM_back σ w_zI502 w_zI556) :=
  p_ctI (by decide +kernel) (Nat.le_of_ble_eq_true rfl) (fun p e s m below meth c0 ls A E hP hK hA hS hl => wkM_back E hK hA hf rfl hP hS hl)
/-! walk(I)I -/
def sgM_walk (σ : Sto) (w0 : Int32) : Sto := zI σ 502 w0
theorem sgM_walk_self (σ : Sto) : sgM_walk σ (σ.1 502) = σ := by
  unfold sgM_walk
  simp only [zI_self, zL_self, aI_self, aL_self]
theorem sgM_walk_zI502 {σ : Sto} {w0 : Int32} {g : Int32} : zI (sgM_walk σ w0) 502 g = sgM_walk σ g := zI_zI _ 502 _ _
theorem sgM_walk_rzI502 {σ : Sto} {w0 : Int32} : (sgM_walk σ w0).1 502 = w0 := rfl
theorem sgM_walk_rzI554 {σ : Sto} {w0 : Int32} : (sgM_walk σ w0).1 554 = σ.1 554 := rfl
theorem sgM_walk_rzI555 {σ : Sto} {w0 : Int32} : (sgM_walk σ w0).1 555 = σ.1 555 := rfl
theorem sgM_walk_rzI556 {σ : Sto} {w0 : Int32} : (sgM_walk σ w0).1 556 = σ.1 556 := rfl
theorem sgM_walk_raI611 {σ : Sto} {w0 : Int32} : (sgM_walk σ w0).2.2.1 611 = σ.2.2.1 611 := rfl
theorem sgM_walk_raI657 {σ : Sto} {w0 : Int32} : (sgM_walk σ w0).2.2.1 657 = σ.2.2.1 657 := rfl
theorem sgM_walk_raI658 {σ : Sto} {w0 : Int32} : (sgM_walk σ w0).2.2.1 658 = σ.2.2.1 658 := rfl
theorem sgM_walk_raI659 {σ : Sto} {w0 : Int32} : (sgM_walk σ w0).2.2.1 659 = σ.2.2.1 659 := rfl
abbrev rmM_walk : Room := { frames := 0, cells := 0, slots := 0, locals := 0 }
set_option maxHeartbeats 4000000 in
theorem wkM_walk {x1 : Int32} {r_ : Int32} {w_zI502 : Int32} (E : EN p s m args meth c0 RX16 cX16_walk 2 (Option.some Jvm.ClassFile.FieldType.int)) (hK : KK D clsA G s) (hA : ∀ q, PA dscM ad s.heap.size q → A q) (hf : mo_walk (σ.1 502) (σ.1 554) (σ.1 555) (σ.1 556) (σ.2.2.1 611) (σ.2.2.1 657) (σ.2.2.1 658) (σ.2.2.1 659) x1 = some (r_, w_zI502)) (hQ : Q = MQ below (va_Qi (fun x (_ : Unit) => x = r_) (fun _ t => PM D G ad (sgM_walk σ w_zI502) t.heap ∧ KK D clsA G t) A) args s 0 0 A) (hP : PM D G ad σ H) (hS : va_S A s.heap H locs) (hl : lv_has ls 2 [(0, .ref (ad 500)), (1, .int x1)]) : W p l e rmM_walk s m args below meth c0 H locs 0 0 Q (F0 m 0 ls []) := by
  obtain ⟨⟨hx, hb, hml, hown, hts⟩, hr, hlk⟩ := id E
  have hP := hP.to (sgM_walk_self σ).symm
  unfold mo_walk at hf
  refine lv_aload_n hx hb dX16_walk_0 rfl (lv_at hl 0 rfl) ?_
  refine lv_iconst hx hb dX16_walk_1 ic_0 ?_
  refine uM_2 E hK hP hS (hA _ (PA_c dM_500)) sgM_walk_zI502 dX16_walk_2 (fun H locs hP hS => ?_)
  refine lv_aload_n hx hb dX16_walk_5 rfl (lv_at hl 0 rfl) ?_
  refine gM_54 (v := (σ.1 554)) E hK hP sgM_walk_rzI554 dX16_walk_6 ?_
  refine lv_if_ne (tgt := 14) hx hb dX16_walk_9 (by decide) (fun c1 => ?_) (fun c1 => ?_)
  · have hf := ifF c1 hf
    refine lv_iload_n hx hb dX16_walk_14 rfl (lv_at hl 1 rfl) ?_
    by_cases c2 : x1 = 0
    · have hf := ifT c2 hf
      refine lv_tableIn (tgt := 52) (off := 37) hx hb dX16_walk_15 (by rw [c2]; decide) (by rw [c2]; decide) (by rw [c2]; decide) (by decide) ?_
      refine lv_aload_n hx hb dX16_walk_52 rfl (lv_at hl 0 rfl) ?_
      refine gM_57 E hK hP dX16_walk_53 ?_
      refine lv_aload_n hx hb dX16_walk_56 rfl (lv_at hl 0 rfl) ?_
      refine gM_56 (v := (σ.1 556)) E hK hP sgM_walk_rzI556 dX16_walk_57 ?_
      obtain ⟨v3, hv3, hf⟩ := bdP hf
      refine p_iald hx hb hK hP dM_657 sgM_walk_raI657 hv3 dX16_walk_60 ?_
      cases hf
      rw [hQ]; exact p_iret hx hb hr hlk hK hP hS dX16_walk_61
    have hf := ifF c2 hf
    by_cases c4 : x1 = 1
    · have hf := ifT c4 hf
      refine lv_tableIn (tgt := 62) (off := 47) hx hb dX16_walk_15 (by rw [c4]; decide) (by rw [c4]; decide) (by rw [c4]; decide) (by decide) ?_
      refine lv_aload_n hx hb dX16_walk_62 rfl (lv_at hl 0 rfl) ?_
      refine gM_58 E hK hP dX16_walk_63 ?_
      refine lv_aload_n hx hb dX16_walk_66 rfl (lv_at hl 0 rfl) ?_
      refine gM_56 (v := (σ.1 556)) E hK hP sgM_walk_rzI556 dX16_walk_67 ?_
      obtain ⟨v5, hv5, hf⟩ := bdP hf
      refine p_iald hx hb hK hP dM_658 sgM_walk_raI658 hv5 dX16_walk_70 ?_
      cases hf
      rw [hQ]; exact p_iret hx hb hr hlk hK hP hS dX16_walk_71
    have hf := ifF c4 hf
    by_cases c6 : x1 = 2
    · have hf := ifT c6 hf
      refine lv_tableIn (tgt := 72) (off := 57) hx hb dX16_walk_15 (by rw [c6]; decide) (by rw [c6]; decide) (by rw [c6]; decide) (by decide) ?_
      refine lv_aload_n hx hb dX16_walk_72 rfl (lv_at hl 0 rfl) ?_
      refine gM_59 E hK hP dX16_walk_73 ?_
      refine lv_aload_n hx hb dX16_walk_76 rfl (lv_at hl 0 rfl) ?_
      refine gM_56 (v := (σ.1 556)) E hK hP sgM_walk_rzI556 dX16_walk_77 ?_
      obtain ⟨v7, hv7, hf⟩ := bdP hf
      refine p_iald hx hb hK hP dM_659 sgM_walk_raI659 hv7 dX16_walk_80 ?_
      cases hf
      rw [hQ]; exact p_iret hx hb hr hlk hK hP hS dX16_walk_81
    have hf := ifF c6 hf
    by_cases c8 : x1 = 3
    · have hf := ifT c8 hf
      refine lv_tableIn (tgt := 82) (off := 67) hx hb dX16_walk_15 (by rw [c8]; decide) (by rw [c8]; decide) (by rw [c8]; decide) (by decide) ?_
      refine lv_aload_n hx hb dX16_walk_82 rfl (lv_at hl 0 rfl) ?_
      refine gM_56 (v := (σ.1 556)) E hK hP sgM_walk_rzI556 dX16_walk_83 ?_
      cases hf
      rw [hQ]; exact p_iret hx hb hr hlk hK hP hS dX16_walk_86
    have hf := ifF c8 hf
    by_cases c9 : x1 = 4
    · have hf := ifT c9 hf
      refine lv_tableIn (tgt := 87) (off := 72) hx hb dX16_walk_15 (by rw [c9]; decide) (by rw [c9]; decide) (by rw [c9]; decide) (by decide) ?_
      refine lv_aload_n hx hb dX16_walk_87 rfl (lv_at hl 0 rfl) ?_
      refine gM_55 (v := (σ.1 555)) E hK hP sgM_walk_rzI555 dX16_walk_88 ?_
      cases hf
      rw [hQ]; exact p_iret hx hb hr hlk hK hP hS dX16_walk_91
    have hf := ifF c9 hf
    by_cases c10 : x1 = 5
    · have hf := ifT c10 hf
      refine lv_tableIn (tgt := 92) (off := 77) hx hb dX16_walk_15 (by rw [c10]; decide) (by rw [c10]; decide) (by rw [c10]; decide) (by decide) ?_
      refine lv_aload_n hx hb dX16_walk_92 rfl (lv_at hl 0 rfl) ?_
      refine gM_57 E hK hP dX16_walk_93 ?_
      refine lv_aload_n hx hb dX16_walk_96 rfl (lv_at hl 0 rfl) ?_
      refine gM_56 (v := (σ.1 556)) E hK hP sgM_walk_rzI556 dX16_walk_97 ?_
      obtain ⟨v11, hv11, hf⟩ := bdP hf
      refine p_iald hx hb hK hP dM_657 sgM_walk_raI657 hv11 dX16_walk_100 ?_
      refine lv_aload_n hx hb dX16_walk_101 rfl (lv_at hl 0 rfl) ?_
      refine gM_11 E hK hP dX16_walk_102 ?_
      refine lv_bipush hx hb dX16_walk_105 bp_7 ?_
      obtain ⟨v12, hv12, hf⟩ := bdP hf
      refine p_iald hx hb hK hP dM_611 sgM_walk_raI611 hv12 dX16_walk_107 ?_
      refine lv_icmp_ne (tgt := 115) hx hb dX16_walk_108 (by decide) (fun c13 => ?_) (fun c13 => ?_)
      · have hf := ifF c13 hf
        refine lv_iconst hx hb dX16_walk_115 ic_0 ?_
        cases hf
        rw [hQ]; exact p_iret hx hb hr hlk hK hP hS dX16_walk_116
      · have hf := ifT c13 hf
        refine lv_iconst hx hb dX16_walk_111 ic_1 ?_
        refine lv_goto (tgt := 116) hx hb dX16_walk_112 (by decide) ?_
        cases hf
        rw [hQ]; exact p_iret hx hb hr hlk hK hP hS dX16_walk_116
    have hf := ifF c10 hf
    refine lv_tableOut (tgt := 117) hx hb dX16_walk_15 (sw_out6 c2 c4 c6 c8 c9 c10) (by decide) ?_
    refine lv_iconst hx hb dX16_walk_117 ic_m1 ?_
    cases hf
    rw [hQ]; exact p_iret hx hb hr hlk hK hP hS dX16_walk_118
  · have hf := ifT c1 hf
    refine lv_iconst hx hb dX16_walk_12 ic_m1 ?_
    cases hf
    rw [hQ]; exact p_iret hx hb hr hlk hK hP hS dX16_walk_13
theorem kM_walk (l : Launch) (D : va_G) (G : Nat → ClassId) (ad : Nat → Nat) (σ : Sto) {x1 : Int32} {r_ : Int32} {w_zI502 : Int32} (hf : mo_walk (σ.1 502) (σ.1 554) (σ.1 555) (σ.1 556) (σ.2.2.1 611) (σ.2.2.1 657) (σ.2.2.1 658) (σ.2.2.1 659) x1 = some (r_, w_zI502)) : CtI l D clsA G dscM ad yX16_walk (ws_ yX16_walk cX16_walk 2 (Option.some Jvm.ClassFile.FieldType.int)) rmM_walk [.ref (ad 500), .int x1] σ r_ (sgM_walk σ w_zI502) :=
  p_ctI (by decide +kernel) (Nat.le_of_ble_eq_true rfl) (fun p e s m below meth c0 ls A E hP hK hA hS hl => wkM_walk E hK hA hf rfl hP hS hl)
/-! count(I)I -/
def sgM_count (σ : Sto) (w0 : Int32) : Sto := zI σ 502 w0
theorem sgM_count_self (σ : Sto) : sgM_count σ (σ.1 502) = σ := by
  unfold sgM_count
  simp only [zI_self, zL_self, aI_self, aL_self]
theorem sgM_count_zI502 {σ : Sto} {w0 : Int32} {g : Int32} : zI (sgM_count σ w0) 502 g = sgM_count σ g := zI_zI _ 502 _ _
theorem sgM_count_rzI502 {σ : Sto} {w0 : Int32} : (sgM_count σ w0).1 502 = w0 := rfl
theorem sgM_count_rzI541 {σ : Sto} {w0 : Int32} : (sgM_count σ w0).1 541 = σ.1 541 := rfl
theorem sgM_count_rzI543 {σ : Sto} {w0 : Int32} : (sgM_count σ w0).1 543 = σ.1 543 := rfl
theorem sgM_count_raI611 {σ : Sto} {w0 : Int32} : (sgM_count σ w0).2.2.1 611 = σ.2.2.1 611 := rfl
abbrev rmM_count : Room := { frames := 0, cells := 0, slots := 0, locals := 0 }
set_option maxHeartbeats 4000000 in
theorem wkM_count {x1 : Int32} {r_ : Int32} {w_zI502 : Int32} (E : EN p s m args meth c0 RX16 cX16_count 2 (Option.some Jvm.ClassFile.FieldType.int)) (hK : KK D clsA G s) (hA : ∀ q, PA dscM ad s.heap.size q → A q) (hf : mo_count (σ.1 502) (σ.1 541) (σ.1 543) (σ.2.2.1 611) x1 = some (r_, w_zI502)) (hQ : Q = MQ below (va_Qi (fun x (_ : Unit) => x = r_) (fun _ t => PM D G ad (sgM_count σ w_zI502) t.heap ∧ KK D clsA G t) A) args s 0 0 A) (hP : PM D G ad σ H) (hS : va_S A s.heap H locs) (hl : lv_has ls 2 [(0, .ref (ad 500)), (1, .int x1)]) : W p l e rmM_count s m args below meth c0 H locs 0 0 Q (F0 m 0 ls []) := by
  obtain ⟨⟨hx, hb, hml, hown, hts⟩, hr, hlk⟩ := id E
  have hP := hP.to (sgM_count_self σ).symm
  unfold mo_count at hf
  refine lv_aload_n hx hb dX16_count_0 rfl (lv_at hl 0 rfl) ?_
  refine lv_iconst hx hb dX16_count_1 ic_0 ?_
  refine uM_2 E hK hP hS (hA _ (PA_c dM_500)) sgM_count_zI502 dX16_count_2 (fun H locs hP hS => ?_)
  refine lv_iload_n hx hb dX16_count_5 rfl (lv_at hl 1 rfl) ?_
  by_cases c1 : x1 = 0
  · have hf := ifT c1 hf
    refine lv_tableIn (tgt := 56) (off := 50) hx hb dX16_count_6 (by rw [c1]; decide) (by rw [c1]; decide) (by rw [c1]; decide) (by decide) ?_
    refine lv_aload_n hx hb dX16_count_56 rfl (lv_at hl 0 rfl) ?_
    refine gM_11 E hK hP dX16_count_57 ?_
    refine lv_iconst hx hb dX16_count_60 ic_0 ?_
    obtain ⟨v2, hv2, hf⟩ := bdP hf
    refine p_iald hx hb hK hP dM_611 sgM_count_raI611 hv2 dX16_count_61 ?_
    cases hf
    rw [hQ]; exact p_iret hx hb hr hlk hK hP hS dX16_count_62
  have hf := ifF c1 hf
  by_cases c3 : x1 = 1
  · have hf := ifT c3 hf
    refine lv_tableIn (tgt := 63) (off := 57) hx hb dX16_count_6 (by rw [c3]; decide) (by rw [c3]; decide) (by rw [c3]; decide) (by decide) ?_
    refine lv_aload_n hx hb dX16_count_63 rfl (lv_at hl 0 rfl) ?_
    refine gM_11 E hK hP dX16_count_64 ?_
    refine lv_iconst hx hb dX16_count_67 ic_2 ?_
    obtain ⟨v4, hv4, hf⟩ := bdP hf
    refine p_iald hx hb hK hP dM_611 sgM_count_raI611 hv4 dX16_count_68 ?_
    cases hf
    rw [hQ]; exact p_iret hx hb hr hlk hK hP hS dX16_count_69
  have hf := ifF c3 hf
  by_cases c5 : x1 = 2
  · have hf := ifT c5 hf
    refine lv_tableIn (tgt := 70) (off := 64) hx hb dX16_count_6 (by rw [c5]; decide) (by rw [c5]; decide) (by rw [c5]; decide) (by decide) ?_
    refine lv_aload_n hx hb dX16_count_70 rfl (lv_at hl 0 rfl) ?_
    refine gM_11 E hK hP dX16_count_71 ?_
    refine lv_iconst hx hb dX16_count_74 ic_3 ?_
    obtain ⟨v6, hv6, hf⟩ := bdP hf
    refine p_iald hx hb hK hP dM_611 sgM_count_raI611 hv6 dX16_count_75 ?_
    cases hf
    rw [hQ]; exact p_iret hx hb hr hlk hK hP hS dX16_count_76
  have hf := ifF c5 hf
  by_cases c7 : x1 = 3
  · have hf := ifT c7 hf
    refine lv_tableIn (tgt := 77) (off := 71) hx hb dX16_count_6 (by rw [c7]; decide) (by rw [c7]; decide) (by rw [c7]; decide) (by decide) ?_
    refine lv_aload_n hx hb dX16_count_77 rfl (lv_at hl 0 rfl) ?_
    refine gM_11 E hK hP dX16_count_78 ?_
    refine lv_iconst hx hb dX16_count_81 ic_1 ?_
    obtain ⟨v8, hv8, hf⟩ := bdP hf
    refine p_iald hx hb hK hP dM_611 sgM_count_raI611 hv8 dX16_count_82 ?_
    cases hf
    rw [hQ]; exact p_iret hx hb hr hlk hK hP hS dX16_count_83
  have hf := ifF c7 hf
  by_cases c9 : x1 = 4
  · have hf := ifT c9 hf
    refine lv_tableIn (tgt := 84) (off := 78) hx hb dX16_count_6 (by rw [c9]; decide) (by rw [c9]; decide) (by rw [c9]; decide) (by decide) ?_
    refine lv_aload_n hx hb dX16_count_84 rfl (lv_at hl 0 rfl) ?_
    refine gM_11 E hK hP dX16_count_85 ?_
    refine lv_iconst hx hb dX16_count_88 ic_5 ?_
    obtain ⟨v10, hv10, hf⟩ := bdP hf
    refine p_iald hx hb hK hP dM_611 sgM_count_raI611 hv10 dX16_count_89 ?_
    cases hf
    rw [hQ]; exact p_iret hx hb hr hlk hK hP hS dX16_count_90
  have hf := ifF c9 hf
  by_cases c11 : x1 = 5
  · have hf := ifT c11 hf
    refine lv_tableIn (tgt := 91) (off := 85) hx hb dX16_count_6 (by rw [c11]; decide) (by rw [c11]; decide) (by rw [c11]; decide) (by decide) ?_
    refine lv_aload_n hx hb dX16_count_91 rfl (lv_at hl 0 rfl) ?_
    refine gM_11 E hK hP dX16_count_92 ?_
    refine lv_bipush hx hb dX16_count_95 bp_6 ?_
    obtain ⟨v12, hv12, hf⟩ := bdP hf
    refine p_iald hx hb hK hP dM_611 sgM_count_raI611 hv12 dX16_count_97 ?_
    cases hf
    rw [hQ]; exact p_iret hx hb hr hlk hK hP hS dX16_count_98
  have hf := ifF c11 hf
  by_cases c13 : x1 = 6
  · have hf := ifT c13 hf
    refine lv_tableIn (tgt := 99) (off := 93) hx hb dX16_count_6 (by rw [c13]; decide) (by rw [c13]; decide) (by rw [c13]; decide) (by decide) ?_
    refine lv_aload_n hx hb dX16_count_99 rfl (lv_at hl 0 rfl) ?_
    refine gM_11 E hK hP dX16_count_100 ?_
    refine lv_bipush hx hb dX16_count_103 bp_7 ?_
    obtain ⟨v14, hv14, hf⟩ := bdP hf
    refine p_iald hx hb hK hP dM_611 sgM_count_raI611 hv14 dX16_count_105 ?_
    cases hf
    rw [hQ]; exact p_iret hx hb hr hlk hK hP hS dX16_count_106
  have hf := ifF c13 hf
  by_cases c15 : x1 = 7
  · have hf := ifT c15 hf
    refine lv_tableIn (tgt := 107) (off := 101) hx hb dX16_count_6 (by rw [c15]; decide) (by rw [c15]; decide) (by rw [c15]; decide) (by decide) ?_
    refine lv_aload_n hx hb dX16_count_107 rfl (lv_at hl 0 rfl) ?_
    refine gM_43 (v := (σ.1 543)) E hK hP sgM_count_rzI543 dX16_count_108 ?_
    cases hf
    rw [hQ]; exact p_iret hx hb hr hlk hK hP hS dX16_count_111
  have hf := ifF c15 hf
  by_cases c16 : x1 = 8
  · have hf := ifT c16 hf
    refine lv_tableIn (tgt := 112) (off := 106) hx hb dX16_count_6 (by rw [c16]; decide) (by rw [c16]; decide) (by rw [c16]; decide) (by decide) ?_
    refine lv_aload_n hx hb dX16_count_112 rfl (lv_at hl 0 rfl) ?_
    refine gM_41 (v := (σ.1 541)) E hK hP sgM_count_rzI541 dX16_count_113 ?_
    cases hf
    rw [hQ]; exact p_iret hx hb hr hlk hK hP hS dX16_count_116
  have hf := ifF c16 hf
  refine lv_tableOut (tgt := 117) hx hb dX16_count_6 (sw_out9 c1 c3 c5 c7 c9 c11 c13 c15 c16) (by decide) ?_
  refine lv_iconst hx hb dX16_count_117 ic_m1 ?_
  cases hf
  rw [hQ]; exact p_iret hx hb hr hlk hK hP hS dX16_count_118
theorem kM_count (l : Launch) (D : va_G) (G : Nat → ClassId) (ad : Nat → Nat) (σ : Sto) {x1 : Int32} {r_ : Int32} {w_zI502 : Int32} (hf : mo_count (σ.1 502) (σ.1 541) (σ.1 543) (σ.2.2.1 611) x1 = some (r_, w_zI502)) : CtI l D clsA G dscM ad yX16_count (ws_ yX16_count cX16_count 2 (Option.some Jvm.ClassFile.FieldType.int)) rmM_count [.ref (ad 500), .int x1] σ r_ (sgM_count σ w_zI502) :=
  p_ctI (by decide +kernel) (Nat.le_of_ble_eq_true rfl) (fun p e s m below meth c0 ls A E hP hK hA hS hl => wkM_count E hK hA hf rfl hP hS hl)
end MWALK
