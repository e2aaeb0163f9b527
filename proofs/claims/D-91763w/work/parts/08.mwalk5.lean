section MWALK
variable {p : Program} {l : Launch} {e : Env} {R : Room} {s : State} {m : MethodId} {args : Array Value} {below : List Frame} {meth : Method} {c0 : Code} {H : Heap} {locs : List Loc} {cells slots : Nat} {Q : State → Prop}
variable {cc : ByteArray} {nL : Nat} {ret : Option FieldType} {pc : Nat} {ls : Array Slot} {rest : List Value} {D : va_G} {A : Nat → Prop} {G : Nat → ClassId} {ad : Nat → Nat} {σ : Sto}
/-! isPlace(I)Z -/
abbrev rmM_isPlace : Room := { frames := 1, cells := 0, slots := 0, locals := 20 }
set_option maxHeartbeats 4000000 in
theorem wkM_isPlace {x1 : Int32} {r_ : Int32} (E : EN p s m args meth c0 RX16 cX16_isPlace 2 (Option.some Jvm.ClassFile.FieldType.boolean)) (hK : KK D clsA G s) (hA : ∀ q, PA dscM ad s.heap.size q → A q) (hf : mo_isPlace (σ.2.2.1 611) x1 = some r_) (hQ : Q = MQ below (va_Qi (fun x (_ : Unit) => x = r_) (fun _ t => PM D G ad σ t.heap ∧ KK D clsA G t) A) args s 0 0 A) (hP : PM D G ad σ H) (hS : va_S A s.heap H locs) (hl : lv_has ls 2 [(0, .ref (ad 500)), (1, .int x1)]) : W p l e rmM_isPlace s m args below meth c0 H locs 0 0 Q (F0 m 0 ls []) := by
  obtain ⟨⟨hx, hb, hml, hown, hts⟩, hr, hlk⟩ := id E
  unfold mo_isPlace at hf
  refine lv_iload_n hx hb dX16_isPlace_0 rfl (lv_at hl 1 rfl) ?_
  have J16 : mo_isPlace_J16 = some r_ → ∀ (H : Heap) (locs : List Loc), PM D G ad σ H → va_S A s.heap H locs → ∀ (ls : Array Slot), lv_has ls 2 [] → W p l e rmM_isPlace s m args below meth c0 H locs 0 0 Q (F0 m 16 ls []) := by
    intro  hf H locs hP hS ls hl
    unfold mo_isPlace_J16 at hf
    refine lv_iconst hx hb dX16_isPlace_16 ic_0 ?_
    cases hf
    rw [hQ]; exact p_zret hx hb hr hlk hK hP hS rfl dX16_isPlace_17
  refine lv_if_lt (tgt := 16) hx hb dX16_isPlace_1 (by decide) (fun c1 => ?_) (fun c1 => ?_)
  · have hf := ifT c1 hf
    exact J16  hf H locs hP hS ls (lv_sub hl [] rfl)
  · have hf := ifF c1 hf
    refine lv_iload_n hx hb dX16_isPlace_4 rfl (lv_at hl 1 rfl) ?_
    refine lv_aload_n hx hb dX16_isPlace_5 rfl (lv_at hl 0 rfl) ?_
    obtain ⟨v2, u3, hf⟩ := bdP hf
    refine cM_places E hK hP hS hA rfl u3 ⟨Nat.le_of_ble_eq_true rfl, Nat.le_of_ble_eq_true rfl⟩ ⟨Nat.zero_le _, Nat.zero_le _⟩ hl.1 (Nat.le_of_ble_eq_true rfl) dX16_isPlace_6 (fun H locs hP hS => ?_)
    refine lv_icmp_ge (tgt := 16) hx hb dX16_isPlace_9 (by decide) (fun c4 => ?_) (fun c4 => ?_)
    · have hf := ifT c4 hf
      exact J16  hf H locs hP hS ls (lv_sub hl [] rfl)
    · have hf := ifF c4 hf
      refine lv_iconst hx hb dX16_isPlace_12 ic_1 ?_
      refine lv_goto (tgt := 17) hx hb dX16_isPlace_13 (by decide) ?_
      cases hf
      rw [hQ]; exact p_zret hx hb hr hlk hK hP hS rfl dX16_isPlace_17
theorem kM_isPlace (l : Launch) (D : va_G) (G : Nat → ClassId) (ad : Nat → Nat) (σ : Sto) {x1 : Int32} {r_ : Int32} (hf : mo_isPlace (σ.2.2.1 611) x1 = some r_) : CtI l D clsA G dscM ad yX16_isPlace (ws_ yX16_isPlace cX16_isPlace 2 (Option.some Jvm.ClassFile.FieldType.boolean)) rmM_isPlace [.ref (ad 500), .int x1] σ r_ σ :=
  p_ctI (by decide +kernel) (Nat.le_of_ble_eq_true rfl) (fun p e s m below meth c0 ls A E hP hK hA hS hl => wkM_isPlace E hK hA hf rfl hP hS hl)
theorem cM_isPlace (E : EN p s m args meth c0 RX16 cc nL ret) (hK : KK D clsA G s) (hP : PM D G ad σ H) (hS : va_S A s.heap H locs) (hA : ∀ q, PA dscM ad s.heap.size q → A q) {x1 : Int32} {r_ : Int32} {a_many : Nat → Int32} (e_aI611 : σ.2.2.1 611 = a_many) (hu : mo_isPlace a_many x1 = some r_) (hR : rmM_isPlace.frames + 1 ≤ R.frames ∧ 8 + (2 + 11) + rmM_isPlace.locals ≤ R.locals) (hcs : cells ≤ R.cells ∧ slots ≤ R.slots) (hsz : ls.size = nL) (hW : (rest.map fun v => v.category).sum ≤ 8) (hdg : decode cc pc = .ok (.invokevirtual 432, 3)) (kk : ∀ (H1 : Heap) (locs1 : List Loc), PM D G ad σ H1 → va_S A s.heap H1 locs1 → W p l e R s m args below meth c0 H1 locs1 cells slots Q (F0 m (pc + 3) ls (.int r_ :: rest))) : W p l e R s m args below meth c0 H locs cells slots Q (F0 m pc ls (.int x1 :: .ref (ad 500) :: rest)) := by
  subst e_aI611
  exact p_callI (As := [.int x1]) (rest := rest) E.1 hK hP hS hA (kM_isPlace l D G ad σ hu) (cwV 1 E.1.2.2.2.2 (lw_V q2161 q2163 qs112 q142 q2164) rfl rfl rfl (by decide +kernel) hR) dM_500 rfl rfl rfl hsz rfl hW hdg hcs kk
/-! next(III)I -/
def sgM_next (σ : Sto) (w0 : Int32) (w1 : Int32) (w2 : Int32) (w3 : Int64) (w4 : Int64) (w5 : Int64) (w6 : Nat → Int32) (w7 : Nat → Int32) (w8 : Nat → Int32) (w9 : Nat → Int32) (w10 : Nat → Int32) (w11 : Nat → Int64) (w12 : Nat → Int64) (w13 : Nat → Int64) (w14 : Nat → Int64) (w15 : Nat → Int64) : Sto := aL (aL (aL (aL (aL (aI (aI (aI (aI (aI (zL (zL (zL (zI (zI (zI σ 502 w0) 545 w1) 546 w2) 538 w3) 539 w4) 547 w5) 629 w6) 631 w7) 632 w8) 636 w9) 640 w10) 630 w11) 633 w12) 634 w13) 635 w14) 637 w15
theorem sgM_next_self (σ : Sto) : sgM_next σ (σ.1 502) (σ.1 545) (σ.1 546) (σ.2.1 538) (σ.2.1 539) (σ.2.1 547) (σ.2.2.1 629) (σ.2.2.1 631) (σ.2.2.1 632) (σ.2.2.1 636) (σ.2.2.1 640) (σ.2.2.2.1 630) (σ.2.2.2.1 633) (σ.2.2.2.1 634) (σ.2.2.2.1 635) (σ.2.2.2.1 637) = σ := by
  unfold sgM_next
  simp only [zI_self, zL_self, aI_self, aL_self]
theorem sgM_next_zI502 {σ : Sto} {w0 : Int32} {w1 : Int32} {w2 : Int32} {w3 : Int64} {w4 : Int64} {w5 : Int64} {w6 : Nat → Int32} {w7 : Nat → Int32} {w8 : Nat → Int32} {w9 : Nat → Int32} {w10 : Nat → Int32} {w11 : Nat → Int64} {w12 : Nat → Int64} {w13 : Nat → Int64} {w14 : Nat → Int64} {w15 : Nat → Int64} {g : Int32} : zI (sgM_next σ w0 w1 w2 w3 w4 w5 w6 w7 w8 w9 w10 w11 w12 w13 w14 w15) 502 g = sgM_next σ g w1 w2 w3 w4 w5 w6 w7 w8 w9 w10 w11 w12 w13 w14 w15 := (cm_zI_aL _ _ _ _ _).trans (congrArg (fun z => aL z 637 w15) ((cm_zI_aL _ _ _ _ _).trans (congrArg (fun z => aL z 635 w14) ((cm_zI_aL _ _ _ _ _).trans (congrArg (fun z => aL z 634 w13) ((cm_zI_aL _ _ _ _ _).trans (congrArg (fun z => aL z 633 w12) ((cm_zI_aL _ _ _ _ _).trans (congrArg (fun z => aL z 630 w11) ((cm_zI_aI _ _ _ _ _).trans (congrArg (fun z => aI z 640 w10) ((cm_zI_aI _ _ _ _ _).trans (congrArg (fun z => aI z 636 w9) ((cm_zI_aI _ _ _ _ _).trans (congrArg (fun z => aI z 632 w8) ((cm_zI_aI _ _ _ _ _).trans (congrArg (fun z => aI z 631 w7) ((cm_zI_aI _ _ _ _ _).trans (congrArg (fun z => aI z 629 w6) ((cm_zI_zL _ _ _ _ _).trans (congrArg (fun z => zL z 547 w5) ((cm_zI_zL _ _ _ _ _).trans (congrArg (fun z => zL z 539 w4) ((cm_zI_zL _ _ _ _ _).trans (congrArg (fun z => zL z 538 w3) ((zI_comm _ (by decide) _ _).trans (congrArg (fun z => zI z 546 w2) ((zI_comm _ (by decide) _ _).trans (congrArg (fun z => zI z 545 w1) (zI_zI _ 502 _ _))))))))))))))))))))))))))))))
theorem sgM_next_zI545 {σ : Sto} {w0 : Int32} {w1 : Int32} {w2 : Int32} {w3 : Int64} {w4 : Int64} {w5 : Int64} {w6 : Nat → Int32} {w7 : Nat → Int32} {w8 : Nat → Int32} {w9 : Nat → Int32} {w10 : Nat → Int32} {w11 : Nat → Int64} {w12 : Nat → Int64} {w13 : Nat → Int64} {w14 : Nat → Int64} {w15 : Nat → Int64} {g : Int32} : zI (sgM_next σ w0 w1 w2 w3 w4 w5 w6 w7 w8 w9 w10 w11 w12 w13 w14 w15) 545 g = sgM_next σ w0 g w2 w3 w4 w5 w6 w7 w8 w9 w10 w11 w12 w13 w14 w15 := (cm_zI_aL _ _ _ _ _).trans (congrArg (fun z => aL z 637 w15) ((cm_zI_aL _ _ _ _ _).trans (congrArg (fun z => aL z 635 w14) ((cm_zI_aL _ _ _ _ _).trans (congrArg (fun z => aL z 634 w13) ((cm_zI_aL _ _ _ _ _).trans (congrArg (fun z => aL z 633 w12) ((cm_zI_aL _ _ _ _ _).trans (congrArg (fun z => aL z 630 w11) ((cm_zI_aI _ _ _ _ _).trans (congrArg (fun z => aI z 640 w10) ((cm_zI_aI _ _ _ _ _).trans (congrArg (fun z => aI z 636 w9) ((cm_zI_aI _ _ _ _ _).trans (congrArg (fun z => aI z 632 w8) ((cm_zI_aI _ _ _ _ _).trans (congrArg (fun z => aI z 631 w7) ((cm_zI_aI _ _ _ _ _).trans (congrArg (fun z => aI z 629 w6) ((cm_zI_zL _ _ _ _ _).trans (congrArg (fun z => zL z 547 w5) ((cm_zI_zL _ _ _ _ _).trans (congrArg (fun z => zL z 539 w4) ((cm_zI_zL _ _ _ _ _).trans (congrArg (fun z => zL z 538 w3) ((zI_comm _ (by decide) _ _).trans (congrArg (fun z => zI z 546 w2) (zI_zI _ 545 _ _))))))))))))))))))))))))))))
theorem sgM_next_zI546 {σ : Sto} {w0 : Int32} {w1 : Int32} {w2 : Int32} {w3 : Int64} {w4 : Int64} {w5 : Int64} {w6 : Nat → Int32} {w7 : Nat → Int32} {w8 : Nat → Int32} {w9 : Nat → Int32} {w10 : Nat → Int32} {w11 : Nat → Int64} {w12 : Nat → Int64} {w13 : Nat → Int64} {w14 : Nat → Int64} {w15 : Nat → Int64} {g : Int32} : zI (sgM_next σ w0 w1 w2 w3 w4 w5 w6 w7 w8 w9 w10 w11 w12 w13 w14 w15) 546 g = sgM_next σ w0 w1 g w3 w4 w5 w6 w7 w8 w9 w10 w11 w12 w13 w14 w15 := (cm_zI_aL _ _ _ _ _).trans (congrArg (fun z => aL z 637 w15) ((cm_zI_aL _ _ _ _ _).trans (congrArg (fun z => aL z 635 w14) ((cm_zI_aL _ _ _ _ _).trans (congrArg (fun z => aL z 634 w13) ((cm_zI_aL _ _ _ _ _).trans (congrArg (fun z => aL z 633 w12) ((cm_zI_aL _ _ _ _ _).trans (congrArg (fun z => aL z 630 w11) ((cm_zI_aI _ _ _ _ _).trans (congrArg (fun z => aI z 640 w10) ((cm_zI_aI _ _ _ _ _).trans (congrArg (fun z => aI z 636 w9) ((cm_zI_aI _ _ _ _ _).trans (congrArg (fun z => aI z 632 w8) ((cm_zI_aI _ _ _ _ _).trans (congrArg (fun z => aI z 631 w7) ((cm_zI_aI _ _ _ _ _).trans (congrArg (fun z => aI z 629 w6) ((cm_zI_zL _ _ _ _ _).trans (congrArg (fun z => zL z 547 w5) ((cm_zI_zL _ _ _ _ _).trans (congrArg (fun z => zL z 539 w4) ((cm_zI_zL _ _ _ _ _).trans (congrArg (fun z => zL z 538 w3) (zI_zI _ 546 _ _))))))))))))))))))))))))))
theorem sgM_next_zL538 {σ : Sto} {w0 : Int32} {w1 : Int32} {w2 : Int32} {w3 : Int64} {w4 : Int64} {w5 : Int64} {w6 : Nat → Int32} {w7 : Nat → Int32} {w8 : Nat → Int32} {w9 : Nat → Int32} {w10 : Nat → Int32} {w11 : Nat → Int64} {w12 : Nat → Int64} {w13 : Nat → Int64} {w14 : Nat → Int64} {w15 : Nat → Int64} {g : Int64} : zL (sgM_next σ w0 w1 w2 w3 w4 w5 w6 w7 w8 w9 w10 w11 w12 w13 w14 w15) 538 g = sgM_next σ w0 w1 w2 g w4 w5 w6 w7 w8 w9 w10 w11 w12 w13 w14 w15 := (cm_zL_aL _ _ _ _ _).trans (congrArg (fun z => aL z 637 w15) ((cm_zL_aL _ _ _ _ _).trans (congrArg (fun z => aL z 635 w14) ((cm_zL_aL _ _ _ _ _).trans (congrArg (fun z => aL z 634 w13) ((cm_zL_aL _ _ _ _ _).trans (congrArg (fun z => aL z 633 w12) ((cm_zL_aL _ _ _ _ _).trans (congrArg (fun z => aL z 630 w11) ((cm_zL_aI _ _ _ _ _).trans (congrArg (fun z => aI z 640 w10) ((cm_zL_aI _ _ _ _ _).trans (congrArg (fun z => aI z 636 w9) ((cm_zL_aI _ _ _ _ _).trans (congrArg (fun z => aI z 632 w8) ((cm_zL_aI _ _ _ _ _).trans (congrArg (fun z => aI z 631 w7) ((cm_zL_aI _ _ _ _ _).trans (congrArg (fun z => aI z 629 w6) ((zL_comm _ (by decide) _ _).trans (congrArg (fun z => zL z 547 w5) ((zL_comm _ (by decide) _ _).trans (congrArg (fun z => zL z 539 w4) (zL_zL _ 538 _ _))))))))))))))))))))))))
theorem sgM_next_zL539 {σ : Sto} {w0 : Int32} {w1 : Int32} {w2 : Int32} {w3 : Int64} {w4 : Int64} {w5 : Int64} {w6 : Nat → Int32} {w7 : Nat → Int32} {w8 : Nat → Int32} {w9 : Nat → Int32} {w10 : Nat → Int32} {w11 : Nat → Int64} {w12 : Nat → Int64} {w13 : Nat → Int64} {w14 : Nat → Int64} {w15 : Nat → Int64} {g : Int64} : zL (sgM_next σ w0 w1 w2 w3 w4 w5 w6 w7 w8 w9 w10 w11 w12 w13 w14 w15) 539 g = sgM_next σ w0 w1 w2 w3 g w5 w6 w7 w8 w9 w10 w11 w12 w13 w14 w15 := (cm_zL_aL _ _ _ _ _).trans (congrArg (fun z => aL z 637 w15) ((cm_zL_aL _ _ _ _ _).trans (congrArg (fun z => aL z 635 w14) ((cm_zL_aL _ _ _ _ _).trans (congrArg (fun z => aL z 634 w13) ((cm_zL_aL _ _ _ _ _).trans (congrArg (fun z => aL z 633 w12) ((cm_zL_aL _ _ _ _ _).trans (congrArg (fun z => aL z 630 w11) ((cm_zL_aI _ _ _ _ _).trans (congrArg (fun z => aI z 640 w10) ((cm_zL_aI _ _ _ _ _).trans (congrArg (fun z => aI z 636 w9) ((cm_zL_aI _ _ _ _ _).trans (congrArg (fun z => aI z 632 w8) ((cm_zL_aI _ _ _ _ _).trans (congrArg (fun z => aI z 631 w7) ((cm_zL_aI _ _ _ _ _).trans (congrArg (fun z => aI z 629 w6) ((zL_comm _ (by decide) _ _).trans (congrArg (fun z => zL z 547 w5) (zL_zL _ 539 _ _))))))))))))))))))))))
theorem sgM_next_zL547 {σ : Sto} {w0 : Int32} {w1 : Int32} {w2 : Int32} {w3 : Int64} {w4 : Int64} {w5 : Int64} {w6 : Nat → Int32} {w7 : Nat → Int32} {w8 : Nat → Int32} {w9 : Nat → Int32} {w10 : Nat → Int32} {w11 : Nat → Int64} {w12 : Nat → Int64} {w13 : Nat → Int64} {w14 : Nat → Int64} {w15 : Nat → Int64} {g : Int64} : zL (sgM_next σ w0 w1 w2 w3 w4 w5 w6 w7 w8 w9 w10 w11 w12 w13 w14 w15) 547 g = sgM_next σ w0 w1 w2 w3 w4 g w6 w7 w8 w9 w10 w11 w12 w13 w14 w15 := (cm_zL_aL _ _ _ _ _).trans (congrArg (fun z => aL z 637 w15) ((cm_zL_aL _ _ _ _ _).trans (congrArg (fun z => aL z 635 w14) ((cm_zL_aL _ _ _ _ _).trans (congrArg (fun z => aL z 634 w13) ((cm_zL_aL _ _ _ _ _).trans (congrArg (fun z => aL z 633 w12) ((cm_zL_aL _ _ _ _ _).trans (congrArg (fun z => aL z 630 w11) ((cm_zL_aI _ _ _ _ _).trans (congrArg (fun z => aI z 640 w10) ((cm_zL_aI _ _ _ _ _).trans (congrArg (fun z => aI z 636 w9) ((cm_zL_aI _ _ _ _ _).trans (congrArg (fun z => aI z 632 w8) ((cm_zL_aI _ _ _ _ _).trans (congrArg (fun z => aI z 631 w7) ((cm_zL_aI _ _ _ _ _).trans (congrArg (fun z => aI z 629 w6) (zL_zL _ 547 _ _))))))))))))))))))))
theorem sgM_next_aI629 {σ : Sto} {w0 : Int32} {w1 : Int32} {w2 : Int32} {w3 : Int64} {w4 : Int64} {w5 : Int64} {w6 : Nat → Int32} {w7 : Nat → Int32} {w8 : Nat → Int32} {w9 : Nat → Int32} {w10 : Nat → Int32} {w11 : Nat → Int64} {w12 : Nat → Int64} {w13 : Nat → Int64} {w14 : Nat → Int64} {w15 : Nat → Int64} {g : Nat → Int32} : aI (sgM_next σ w0 w1 w2 w3 w4 w5 w6 w7 w8 w9 w10 w11 w12 w13 w14 w15) 629 g = sgM_next σ w0 w1 w2 w3 w4 w5 g w7 w8 w9 w10 w11 w12 w13 w14 w15 := (cm_aI_aL _ _ _ _ _).trans (congrArg (fun z => aL z 637 w15) ((cm_aI_aL _ _ _ _ _).trans (congrArg (fun z => aL z 635 w14) ((cm_aI_aL _ _ _ _ _).trans (congrArg (fun z => aL z 634 w13) ((cm_aI_aL _ _ _ _ _).trans (congrArg (fun z => aL z 633 w12) ((cm_aI_aL _ _ _ _ _).trans (congrArg (fun z => aL z 630 w11) ((aI_comm _ (by decide) _ _).trans (congrArg (fun z => aI z 640 w10) ((aI_comm _ (by decide) _ _).trans (congrArg (fun z => aI z 636 w9) ((aI_comm _ (by decide) _ _).trans (congrArg (fun z => aI z 632 w8) ((aI_comm _ (by decide) _ _).trans (congrArg (fun z => aI z 631 w7) (aI_aI _ 629 _ _))))))))))))))))))
theorem sgM_next_aI631 {σ : Sto} {w0 : Int32} {w1 : Int32} {w2 : Int32} {w3 : Int64} {w4 : Int64} {w5 : Int64} {w6 : Nat → Int32} {w7 : Nat → Int32} {w8 : Nat → Int32} {w9 : Nat → Int32} {w10 : Nat → Int32} {w11 : Nat → Int64} {w12 : Nat → Int64} {w13 : Nat → Int64} {w14 : Nat → Int64} {w15 : Nat → Int64} {g : Nat → Int32} : aI (sgM_next σ w0 w1 w2 w3 w4 w5 w6 w7 w8 w9 w10 w11 w12 w13 w14 w15) 631 g = sgM_next σ w0 w1 w2 w3 w4 w5 w6 g w8 w9 w10 w11 w12 w13 w14 w15 := (cm_aI_aL _ _ _ _ _).trans (congrArg (fun z => aL z 637 w15) ((cm_aI_aL _ _ _ _ _).trans (congrArg (fun z => aL z 635 w14) ((cm_aI_aL _ _ _ _ _).trans (congrArg (fun z => aL z 634 w13) ((cm_aI_aL _ _ _ _ _).trans (congrArg (fun z => aL z 633 w12) ((cm_aI_aL _ _ _ _ _).trans (congrArg (fun z => aL z 630 w11) ((aI_comm _ (by decide) _ _).trans (congrArg (fun z => aI z 640 w10) ((aI_comm _ (by decide) _ _).trans (congrArg (fun z => aI z 636 w9) ((aI_comm _ (by decide) _ _).trans (congrArg (fun z => aI z 632 w8) (aI_aI _ 631 _ _))))))))))))))))
theorem sgM_next_aI632 {σ : Sto} {w0 : Int32} {w1 : Int32} {w2 : Int32} {w3 : Int64} {w4 : Int64} {w5 : Int64} {w6 : Nat → Int32} {w7 : Nat → Int32} {w8 : Nat → Int32} {w9 : Nat → Int32} {w10 : Nat → Int32} {w11 : Nat → Int64} {w12 : Nat → Int64} {w13 : Nat → Int64} {w14 : Nat → Int64} {w15 : Nat → Int64} {g : Nat → Int32} : aI (sgM_next σ w0 w1 w2 w3 w4 w5 w6 w7 w8 w9 w10 w11 w12 w13 w14 w15) 632 g = sgM_next σ w0 w1 w2 w3 w4 w5 w6 w7 g w9 w10 w11 w12 w13 w14 w15 := (cm_aI_aL _ _ _ _ _).trans (congrArg (fun z => aL z 637 w15) ((cm_aI_aL _ _ _ _ _).trans (congrArg (fun z => aL z 635 w14) ((cm_aI_aL _ _ _ _ _).trans (congrArg (fun z => aL z 634 w13) ((cm_aI_aL _ _ _ _ _).trans (congrArg (fun z => aL z 633 w12) ((cm_aI_aL _ _ _ _ _).trans (congrArg (fun z => aL z 630 w11) ((aI_comm _ (by decide) _ _).trans (congrArg (fun z => aI z 640 w10) ((aI_comm _ (by decide) _ _).trans (congrArg (fun z => aI z 636 w9) (aI_aI _ 632 _ _))))))))))))))
theorem sgM_next_aI636 {σ : Sto} {w0 : Int32} {w1 : Int32} {w2 : Int32} {w3 : Int64} {w4 : Int64} {w5 : Int64} {w6 : Nat → Int32} {w7 : Nat → Int32} {w8 : Nat → Int32} {w9 : Nat → Int32} {w10 : Nat → Int32} {w11 : Nat → Int64} {w12 : Nat → Int64} {w13 : Nat → Int64} {w14 : Nat → Int64} {w15 : Nat → Int64} {g : Nat → Int32} : aI (sgM_next σ w0 w1 w2 w3 w4 w5 w6 w7 w8 w9 w10 w11 w12 w13 w14 w15) 636 g = sgM_next σ w0 w1 w2 w3 w4 w5 w6 w7 w8 g w10 w11 w12 w13 w14 w15 := (cm_aI_aL _ _ _ _ _).trans (congrArg (fun z => aL z 637 w15) ((cm_aI_aL _ _ _ _ _).trans (congrArg (fun z => aL z 635 w14) ((cm_aI_aL _ _ _ _ _).trans (congrArg (fun z => aL z 634 w13) ((cm_aI_aL _ _ _ _ _).trans (congrArg (fun z => aL z 633 w12) ((cm_aI_aL _ _ _ _ _).trans (congrArg (fun z => aL z 630 w11) ((aI_comm _ (by decide) _ _).trans (congrArg (fun z => aI z 640 w10) (aI_aI _ 636 _ _))))))))))))
theorem sgM_next_aI640 {σ : Sto} {w0 : Int32} {w1 : Int32} {w2 : Int32} {w3 : Int64} {w4 : Int64} {w5 : Int64} {w6 : Nat → Int32} {w7 : Nat → Int32} {w8 : Nat → Int32} {w9 : Nat → Int32} {w10 : Nat → Int32} {w11 : Nat → Int64} {w12 : Nat → Int64} {w13 : Nat → Int64} {w14 : Nat → Int64} {w15 : Nat → Int64} {g : Nat → Int32} : aI (sgM_next σ w0 w1 w2 w3 w4 w5 w6 w7 w8 w9 w10 w11 w12 w13 w14 w15) 640 g = sgM_next σ w0 w1 w2 w3 w4 w5 w6 w7 w8 w9 g w11 w12 w13 w14 w15 := (cm_aI_aL _ _ _ _ _).trans (congrArg (fun z => aL z 637 w15) ((cm_aI_aL _ _ _ _ _).trans (congrArg (fun z => aL z 635 w14) ((cm_aI_aL _ _ _ _ _).trans (congrArg (fun z => aL z 634 w13) ((cm_aI_aL _ _ _ _ _).trans (congrArg (fun z => aL z 633 w12) ((cm_aI_aL _ _ _ _ _).trans (congrArg (fun z => aL z 630 w11) (aI_aI _ 640 _ _))))))))))
theorem sgM_next_aL630 {σ : Sto} {w0 : Int32} {w1 : Int32} {w2 : Int32} {w3 : Int64} {w4 : Int64} {w5 : Int64} {w6 : Nat → Int32} {w7 : Nat → Int32} {w8 : Nat → Int32} {w9 : Nat → Int32} {w10 : Nat → Int32} {w11 : Nat → Int64} {w12 : Nat → Int64} {w13 : Nat → Int64} {w14 : Nat → Int64} {w15 : Nat → Int64} {g : Nat → Int64} : aL (sgM_next σ w0 w1 w2 w3 w4 w5 w6 w7 w8 w9 w10 w11 w12 w13 w14 w15) 630 g = sgM_next σ w0 w1 w2 w3 w4 w5 w6 w7 w8 w9 w10 g w12 w13 w14 w15 := (aL_comm _ (by decide) _ _).trans (congrArg (fun z => aL z 637 w15) ((aL_comm _ (by decide) _ _).trans (congrArg (fun z => aL z 635 w14) ((aL_comm _ (by decide) _ _).trans (congrArg (fun z => aL z 634 w13) ((aL_comm _ (by decide) _ _).trans (congrArg (fun z => aL z 633 w12) (aL_aL _ 630 _ _))))))))
theorem sgM_next_aL633 {σ : Sto} {w0 : Int32} {w1 : Int32} {w2 : Int32} {w3 : Int64} {w4 : Int64} {w5 : Int64} {w6 : Nat → Int32} {w7 : Nat → Int32} {w8 : Nat → Int32} {w9 : Nat → Int32} {w10 : Nat → Int32} {w11 : Nat → Int64} {w12 : Nat → Int64} {w13 : Nat → Int64} {w14 : Nat → Int64} {w15 : Nat → Int64} {g : Nat → Int64} : aL (sgM_next σ w0 w1 w2 w3 w4 w5 w6 w7 w8 w9 w10 w11 w12 w13 w14 w15) 633 g = sgM_next σ w0 w1 w2 w3 w4 w5 w6 w7 w8 w9 w10 w11 g w13 w14 w15 := (aL_comm _ (by decide) _ _).trans (congrArg (fun z => aL z 637 w15) ((aL_comm _ (by decide) _ _).trans (congrArg (fun z => aL z 635 w14) ((aL_comm _ (by decide) _ _).trans (congrArg (fun z => aL z 634 w13) (aL_aL _ 633 _ _))))))
theorem sgM_next_aL634 {σ : Sto} {w0 : Int32} {w1 : Int32} {w2 : Int32} {w3 : Int64} {w4 : Int64} {w5 : Int64} {w6 : Nat → Int32} {w7 : Nat → Int32} {w8 : Nat → Int32} {w9 : Nat → Int32} {w10 : Nat → Int32} {w11 : Nat → Int64} {w12 : Nat → Int64} {w13 : Nat → Int64} {w14 : Nat → Int64} {w15 : Nat → Int64} {g : Nat → Int64} : aL (sgM_next σ w0 w1 w2 w3 w4 w5 w6 w7 w8 w9 w10 w11 w12 w13 w14 w15) 634 g = sgM_next σ w0 w1 w2 w3 w4 w5 w6 w7 w8 w9 w10 w11 w12 g w14 w15 := (aL_comm _ (by decide) _ _).trans (congrArg (fun z => aL z 637 w15) ((aL_comm _ (by decide) _ _).trans (congrArg (fun z => aL z 635 w14) (aL_aL _ 634 _ _))))
theorem sgM_next_aL635 {σ : Sto} {w0 : Int32} {w1 : Int32} {w2 : Int32} {w3 : Int64} {w4 : Int64} {w5 : Int64} {w6 : Nat → Int32} {w7 : Nat → Int32} {w8 : Nat → Int32} {w9 : Nat → Int32} {w10 : Nat → Int32} {w11 : Nat → Int64} {w12 : Nat → Int64} {w13 : Nat → Int64} {w14 : Nat → Int64} {w15 : Nat → Int64} {g : Nat → Int64} : aL (sgM_next σ w0 w1 w2 w3 w4 w5 w6 w7 w8 w9 w10 w11 w12 w13 w14 w15) 635 g = sgM_next σ w0 w1 w2 w3 w4 w5 w6 w7 w8 w9 w10 w11 w12 w13 g w15 := (aL_comm _ (by decide) _ _).trans (congrArg (fun z => aL z 637 w15) (aL_aL _ 635 _ _))
theorem sgM_next_aL637 {σ : Sto} {w0 : Int32} {w1 : Int32} {w2 : Int32} {w3 : Int64} {w4 : Int64} {w5 : Int64} {w6 : Nat → Int32} {w7 : Nat → Int32} {w8 : Nat → Int32} {w9 : Nat → Int32} {w10 : Nat → Int32} {w11 : Nat → Int64} {w12 : Nat → Int64} {w13 : Nat → Int64} {w14 : Nat → Int64} {w15 : Nat → Int64} {g : Nat → Int64} : aL (sgM_next σ w0 w1 w2 w3 w4 w5 w6 w7 w8 w9 w10 w11 w12 w13 w14 w15) 637 g = sgM_next σ w0 w1 w2 w3 w4 w5 w6 w7 w8 w9 w10 w11 w12 w13 w14 g := aL_aL _ 637 _ _
theorem sgM_next_rzI502 {σ : Sto} {w0 : Int32} {w1 : Int32} {w2 : Int32} {w3 : Int64} {w4 : Int64} {w5 : Int64} {w6 : Nat → Int32} {w7 : Nat → Int32} {w8 : Nat → Int32} {w9 : Nat → Int32} {w10 : Nat → Int32} {w11 : Nat → Int64} {w12 : Nat → Int64} {w13 : Nat → Int64} {w14 : Nat → Int64} {w15 : Nat → Int64} : (sgM_next σ w0 w1 w2 w3 w4 w5 w6 w7 w8 w9 w10 w11 w12 w13 w14 w15).1 502 = w0 := rfl
theorem sgM_next_rzI522 {σ : Sto} {w0 : Int32} {w1 : Int32} {w2 : Int32} {w3 : Int64} {w4 : Int64} {w5 : Int64} {w6 : Nat → Int32} {w7 : Nat → Int32} {w8 : Nat → Int32} {w9 : Nat → Int32} {w10 : Nat → Int32} {w11 : Nat → Int64} {w12 : Nat → Int64} {w13 : Nat → Int64} {w14 : Nat → Int64} {w15 : Nat → Int64} : (sgM_next σ w0 w1 w2 w3 w4 w5 w6 w7 w8 w9 w10 w11 w12 w13 w14 w15).1 522 = σ.1 522 := rfl
theorem sgM_next_rzI523 {σ : Sto} {w0 : Int32} {w1 : Int32} {w2 : Int32} {w3 : Int64} {w4 : Int64} {w5 : Int64} {w6 : Nat → Int32} {w7 : Nat → Int32} {w8 : Nat → Int32} {w9 : Nat → Int32} {w10 : Nat → Int32} {w11 : Nat → Int64} {w12 : Nat → Int64} {w13 : Nat → Int64} {w14 : Nat → Int64} {w15 : Nat → Int64} : (sgM_next σ w0 w1 w2 w3 w4 w5 w6 w7 w8 w9 w10 w11 w12 w13 w14 w15).1 523 = σ.1 523 := rfl
theorem sgM_next_rzI541 {σ : Sto} {w0 : Int32} {w1 : Int32} {w2 : Int32} {w3 : Int64} {w4 : Int64} {w5 : Int64} {w6 : Nat → Int32} {w7 : Nat → Int32} {w8 : Nat → Int32} {w9 : Nat → Int32} {w10 : Nat → Int32} {w11 : Nat → Int64} {w12 : Nat → Int64} {w13 : Nat → Int64} {w14 : Nat → Int64} {w15 : Nat → Int64} : (sgM_next σ w0 w1 w2 w3 w4 w5 w6 w7 w8 w9 w10 w11 w12 w13 w14 w15).1 541 = σ.1 541 := rfl
theorem sgM_next_rzI543 {σ : Sto} {w0 : Int32} {w1 : Int32} {w2 : Int32} {w3 : Int64} {w4 : Int64} {w5 : Int64} {w6 : Nat → Int32} {w7 : Nat → Int32} {w8 : Nat → Int32} {w9 : Nat → Int32} {w10 : Nat → Int32} {w11 : Nat → Int64} {w12 : Nat → Int64} {w13 : Nat → Int64} {w14 : Nat → Int64} {w15 : Nat → Int64} : (sgM_next σ w0 w1 w2 w3 w4 w5 w6 w7 w8 w9 w10 w11 w12 w13 w14 w15).1 543 = σ.1 543 := rfl
theorem sgM_next_rzI545 {σ : Sto} {w0 : Int32} {w1 : Int32} {w2 : Int32} {w3 : Int64} {w4 : Int64} {w5 : Int64} {w6 : Nat → Int32} {w7 : Nat → Int32} {w8 : Nat → Int32} {w9 : Nat → Int32} {w10 : Nat → Int32} {w11 : Nat → Int64} {w12 : Nat → Int64} {w13 : Nat → Int64} {w14 : Nat → Int64} {w15 : Nat → Int64} : (sgM_next σ w0 w1 w2 w3 w4 w5 w6 w7 w8 w9 w10 w11 w12 w13 w14 w15).1 545 = w1 := rfl
theorem sgM_next_rzI546 {σ : Sto} {w0 : Int32} {w1 : Int32} {w2 : Int32} {w3 : Int64} {w4 : Int64} {w5 : Int64} {w6 : Nat → Int32} {w7 : Nat → Int32} {w8 : Nat → Int32} {w9 : Nat → Int32} {w10 : Nat → Int32} {w11 : Nat → Int64} {w12 : Nat → Int64} {w13 : Nat → Int64} {w14 : Nat → Int64} {w15 : Nat → Int64} : (sgM_next σ w0 w1 w2 w3 w4 w5 w6 w7 w8 w9 w10 w11 w12 w13 w14 w15).1 546 = w2 := rfl
theorem sgM_next_rzL538 {σ : Sto} {w0 : Int32} {w1 : Int32} {w2 : Int32} {w3 : Int64} {w4 : Int64} {w5 : Int64} {w6 : Nat → Int32} {w7 : Nat → Int32} {w8 : Nat → Int32} {w9 : Nat → Int32} {w10 : Nat → Int32} {w11 : Nat → Int64} {w12 : Nat → Int64} {w13 : Nat → Int64} {w14 : Nat → Int64} {w15 : Nat → Int64} : (sgM_next σ w0 w1 w2 w3 w4 w5 w6 w7 w8 w9 w10 w11 w12 w13 w14 w15).2.1 538 = w3 := rfl
theorem sgM_next_rzL539 {σ : Sto} {w0 : Int32} {w1 : Int32} {w2 : Int32} {w3 : Int64} {w4 : Int64} {w5 : Int64} {w6 : Nat → Int32} {w7 : Nat → Int32} {w8 : Nat → Int32} {w9 : Nat → Int32} {w10 : Nat → Int32} {w11 : Nat → Int64} {w12 : Nat → Int64} {w13 : Nat → Int64} {w14 : Nat → Int64} {w15 : Nat → Int64} : (sgM_next σ w0 w1 w2 w3 w4 w5 w6 w7 w8 w9 w10 w11 w12 w13 w14 w15).2.1 539 = w4 := rfl
theorem sgM_next_rzL547 {σ : Sto} {w0 : Int32} {w1 : Int32} {w2 : Int32} {w3 : Int64} {w4 : Int64} {w5 : Int64} {w6 : Nat → Int32} {w7 : Nat → Int32} {w8 : Nat → Int32} {w9 : Nat → Int32} {w10 : Nat → Int32} {w11 : Nat → Int64} {w12 : Nat → Int64} {w13 : Nat → Int64} {w14 : Nat → Int64} {w15 : Nat → Int64} : (sgM_next σ w0 w1 w2 w3 w4 w5 w6 w7 w8 w9 w10 w11 w12 w13 w14 w15).2.1 547 = w5 := rfl
theorem sgM_next_raI611 {σ : Sto} {w0 : Int32} {w1 : Int32} {w2 : Int32} {w3 : Int64} {w4 : Int64} {w5 : Int64} {w6 : Nat → Int32} {w7 : Nat → Int32} {w8 : Nat → Int32} {w9 : Nat → Int32} {w10 : Nat → Int32} {w11 : Nat → Int64} {w12 : Nat → Int64} {w13 : Nat → Int64} {w14 : Nat → Int64} {w15 : Nat → Int64} : (sgM_next σ w0 w1 w2 w3 w4 w5 w6 w7 w8 w9 w10 w11 w12 w13 w14 w15).2.2.1 611 = σ.2.2.1 611 := rfl
theorem sgM_next_raI615 {σ : Sto} {w0 : Int32} {w1 : Int32} {w2 : Int32} {w3 : Int64} {w4 : Int64} {w5 : Int64} {w6 : Nat → Int32} {w7 : Nat → Int32} {w8 : Nat → Int32} {w9 : Nat → Int32} {w10 : Nat → Int32} {w11 : Nat → Int64} {w12 : Nat → Int64} {w13 : Nat → Int64} {w14 : Nat → Int64} {w15 : Nat → Int64} : (sgM_next σ w0 w1 w2 w3 w4 w5 w6 w7 w8 w9 w10 w11 w12 w13 w14 w15).2.2.1 615 = σ.2.2.1 615 := rfl
theorem sgM_next_raI618 {σ : Sto} {w0 : Int32} {w1 : Int32} {w2 : Int32} {w3 : Int64} {w4 : Int64} {w5 : Int64} {w6 : Nat → Int32} {w7 : Nat → Int32} {w8 : Nat → Int32} {w9 : Nat → Int32} {w10 : Nat → Int32} {w11 : Nat → Int64} {w12 : Nat → Int64} {w13 : Nat → Int64} {w14 : Nat → Int64} {w15 : Nat → Int64} : (sgM_next σ w0 w1 w2 w3 w4 w5 w6 w7 w8 w9 w10 w11 w12 w13 w14 w15).2.2.1 618 = σ.2.2.1 618 := rfl
theorem sgM_next_raI620 {σ : Sto} {w0 : Int32} {w1 : Int32} {w2 : Int32} {w3 : Int64} {w4 : Int64} {w5 : Int64} {w6 : Nat → Int32} {w7 : Nat → Int32} {w8 : Nat → Int32} {w9 : Nat → Int32} {w10 : Nat → Int32} {w11 : Nat → Int64} {w12 : Nat → Int64} {w13 : Nat → Int64} {w14 : Nat → Int64} {w15 : Nat → Int64} : (sgM_next σ w0 w1 w2 w3 w4 w5 w6 w7 w8 w9 w10 w11 w12 w13 w14 w15).2.2.1 620 = σ.2.2.1 620 := rfl
theorem sgM_next_raI621 {σ : Sto} {w0 : Int32} {w1 : Int32} {w2 : Int32} {w3 : Int64} {w4 : Int64} {w5 : Int64} {w6 : Nat → Int32} {w7 : Nat → Int32} {w8 : Nat → Int32} {w9 : Nat → Int32} {w10 : Nat → Int32} {w11 : Nat → Int64} {w12 : Nat → Int64} {w13 : Nat → Int64} {w14 : Nat → Int64} {w15 : Nat → Int64} : (sgM_next σ w0 w1 w2 w3 w4 w5 w6 w7 w8 w9 w10 w11 w12 w13 w14 w15).2.2.1 621 = σ.2.2.1 621 := rfl
theorem sgM_next_raI624 {σ : Sto} {w0 : Int32} {w1 : Int32} {w2 : Int32} {w3 : Int64} {w4 : Int64} {w5 : Int64} {w6 : Nat → Int32} {w7 : Nat → Int32} {w8 : Nat → Int32} {w9 : Nat → Int32} {w10 : Nat → Int32} {w11 : Nat → Int64} {w12 : Nat → Int64} {w13 : Nat → Int64} {w14 : Nat → Int64} {w15 : Nat → Int64} : (sgM_next σ w0 w1 w2 w3 w4 w5 w6 w7 w8 w9 w10 w11 w12 w13 w14 w15).2.2.1 624 = σ.2.2.1 624 := rfl
theorem sgM_next_raI625 {σ : Sto} {w0 : Int32} {w1 : Int32} {w2 : Int32} {w3 : Int64} {w4 : Int64} {w5 : Int64} {w6 : Nat → Int32} {w7 : Nat → Int32} {w8 : Nat → Int32} {w9 : Nat → Int32} {w10 : Nat → Int32} {w11 : Nat → Int64} {w12 : Nat → Int64} {w13 : Nat → Int64} {w14 : Nat → Int64} {w15 : Nat → Int64} : (sgM_next σ w0 w1 w2 w3 w4 w5 w6 w7 w8 w9 w10 w11 w12 w13 w14 w15).2.2.1 625 = σ.2.2.1 625 := rfl
theorem sgM_next_raI629 {σ : Sto} {w0 : Int32} {w1 : Int32} {w2 : Int32} {w3 : Int64} {w4 : Int64} {w5 : Int64} {w6 : Nat → Int32} {w7 : Nat → Int32} {w8 : Nat → Int32} {w9 : Nat → Int32} {w10 : Nat → Int32} {w11 : Nat → Int64} {w12 : Nat → Int64} {w13 : Nat → Int64} {w14 : Nat → Int64} {w15 : Nat → Int64} : (sgM_next σ w0 w1 w2 w3 w4 w5 w6 w7 w8 w9 w10 w11 w12 w13 w14 w15).2.2.1 629 = w6 := rfl
theorem sgM_next_raI631 {σ : Sto} {w0 : Int32} {w1 : Int32} {w2 : Int32} {w3 : Int64} {w4 : Int64} {w5 : Int64} {w6 : Nat → Int32} {w7 : Nat → Int32} {w8 : Nat → Int32} {w9 : Nat → Int32} {w10 : Nat → Int32} {w11 : Nat → Int64} {w12 : Nat → Int64} {w13 : Nat → Int64} {w14 : Nat → Int64} {w15 : Nat → Int64} : (sgM_next σ w0 w1 w2 w3 w4 w5 w6 w7 w8 w9 w10 w11 w12 w13 w14 w15).2.2.1 631 = w7 := rfl
theorem sgM_next_raI632 {σ : Sto} {w0 : Int32} {w1 : Int32} {w2 : Int32} {w3 : Int64} {w4 : Int64} {w5 : Int64} {w6 : Nat → Int32} {w7 : Nat → Int32} {w8 : Nat → Int32} {w9 : Nat → Int32} {w10 : Nat → Int32} {w11 : Nat → Int64} {w12 : Nat → Int64} {w13 : Nat → Int64} {w14 : Nat → Int64} {w15 : Nat → Int64} : (sgM_next σ w0 w1 w2 w3 w4 w5 w6 w7 w8 w9 w10 w11 w12 w13 w14 w15).2.2.1 632 = w8 := rfl
theorem sgM_next_raI636 {σ : Sto} {w0 : Int32} {w1 : Int32} {w2 : Int32} {w3 : Int64} {w4 : Int64} {w5 : Int64} {w6 : Nat → Int32} {w7 : Nat → Int32} {w8 : Nat → Int32} {w9 : Nat → Int32} {w10 : Nat → Int32} {w11 : Nat → Int64} {w12 : Nat → Int64} {w13 : Nat → Int64} {w14 : Nat → Int64} {w15 : Nat → Int64} : (sgM_next σ w0 w1 w2 w3 w4 w5 w6 w7 w8 w9 w10 w11 w12 w13 w14 w15).2.2.1 636 = w9 := rfl
theorem sgM_next_raI640 {σ : Sto} {w0 : Int32} {w1 : Int32} {w2 : Int32} {w3 : Int64} {w4 : Int64} {w5 : Int64} {w6 : Nat → Int32} {w7 : Nat → Int32} {w8 : Nat → Int32} {w9 : Nat → Int32} {w10 : Nat → Int32} {w11 : Nat → Int64} {w12 : Nat → Int64} {w13 : Nat → Int64} {w14 : Nat → Int64} {w15 : Nat → Int64} : (sgM_next σ w0 w1 w2 w3 w4 w5 w6 w7 w8 w9 w10 w11 w12 w13 w14 w15).2.2.1 640 = w10 := rfl
theorem sgM_next_raI642 {σ : Sto} {w0 : Int32} {w1 : Int32} {w2 : Int32} {w3 : Int64} {w4 : Int64} {w5 : Int64} {w6 : Nat → Int32} {w7 : Nat → Int32} {w8 : Nat → Int32} {w9 : Nat → Int32} {w10 : Nat → Int32} {w11 : Nat → Int64} {w12 : Nat → Int64} {w13 : Nat → Int64} {w14 : Nat → Int64} {w15 : Nat → Int64} : (sgM_next σ w0 w1 w2 w3 w4 w5 w6 w7 w8 w9 w10 w11 w12 w13 w14 w15).2.2.1 642 = σ.2.2.1 642 := rfl
theorem sgM_next_raI644 {σ : Sto} {w0 : Int32} {w1 : Int32} {w2 : Int32} {w3 : Int64} {w4 : Int64} {w5 : Int64} {w6 : Nat → Int32} {w7 : Nat → Int32} {w8 : Nat → Int32} {w9 : Nat → Int32} {w10 : Nat → Int32} {w11 : Nat → Int64} {w12 : Nat → Int64} {w13 : Nat → Int64} {w14 : Nat → Int64} {w15 : Nat → Int64} : (sgM_next σ w0 w1 w2 w3 w4 w5 w6 w7 w8 w9 w10 w11 w12 w13 w14 w15).2.2.1 644 = σ.2.2.1 644 := rfl
theorem sgM_next_raL626 {σ : Sto} {w0 : Int32} {w1 : Int32} {w2 : Int32} {w3 : Int64} {w4 : Int64} {w5 : Int64} {w6 : Nat → Int32} {w7 : Nat → Int32} {w8 : Nat → Int32} {w9 : Nat → Int32} {w10 : Nat → Int32} {w11 : Nat → Int64} {w12 : Nat → Int64} {w13 : Nat → Int64} {w14 : Nat → Int64} {w15 : Nat → Int64} : (sgM_next σ w0 w1 w2 w3 w4 w5 w6 w7 w8 w9 w10 w11 w12 w13 w14 w15).2.2.2.1 626 = σ.2.2.2.1 626 := rfl
theorem sgM_next_raL628 {σ : Sto} {w0 : Int32} {w1 : Int32} {w2 : Int32} {w3 : Int64} {w4 : Int64} {w5 : Int64} {w6 : Nat → Int32} {w7 : Nat → Int32} {w8 : Nat → Int32} {w9 : Nat → Int32} {w10 : Nat → Int32} {w11 : Nat → Int64} {w12 : Nat → Int64} {w13 : Nat → Int64} {w14 : Nat → Int64} {w15 : Nat → Int64} : (sgM_next σ w0 w1 w2 w3 w4 w5 w6 w7 w8 w9 w10 w11 w12 w13 w14 w15).2.2.2.1 628 = σ.2.2.2.1 628 := rfl
theorem sgM_next_raL630 {σ : Sto} {w0 : Int32} {w1 : Int32} {w2 : Int32} {w3 : Int64} {w4 : Int64} {w5 : Int64} {w6 : Nat → Int32} {w7 : Nat → Int32} {w8 : Nat → Int32} {w9 : Nat → Int32} {w10 : Nat → Int32} {w11 : Nat → Int64} {w12 : Nat → Int64} {w13 : Nat → Int64} {w14 : Nat → Int64} {w15 : Nat → Int64} : (sgM_next σ w0 w1 w2 w3 w4 w5 w6 w7 w8 w9 w10 w11 w12 w13 w14 w15).2.2.2.1 630 = w11 := rfl
theorem sgM_next_raL633 {σ : Sto} {w0 : Int32} {w1 : Int32} {w2 : Int32} {w3 : Int64} {w4 : Int64} {w5 : Int64} {w6 : Nat → Int32} {w7 : Nat → Int32} {w8 : Nat → Int32} {w9 : Nat → Int32} {w10 : Nat → Int32} {w11 : Nat → Int64} {w12 : Nat → Int64} {w13 : Nat → Int64} {w14 : Nat → Int64} {w15 : Nat → Int64} : (sgM_next σ w0 w1 w2 w3 w4 w5 w6 w7 w8 w9 w10 w11 w12 w13 w14 w15).2.2.2.1 633 = w12 := rfl
theorem sgM_next_raL634 {σ : Sto} {w0 : Int32} {w1 : Int32} {w2 : Int32} {w3 : Int64} {w4 : Int64} {w5 : Int64} {w6 : Nat → Int32} {w7 : Nat → Int32} {w8 : Nat → Int32} {w9 : Nat → Int32} {w10 : Nat → Int32} {w11 : Nat → Int64} {w12 : Nat → Int64} {w13 : Nat → Int64} {w14 : Nat → Int64} {w15 : Nat → Int64} : (sgM_next σ w0 w1 w2 w3 w4 w5 w6 w7 w8 w9 w10 w11 w12 w13 w14 w15).2.2.2.1 634 = w13 := rfl
theorem sgM_next_raL635 {σ : Sto} {w0 : Int32} {w1 : Int32} {w2 : Int32} {w3 : Int64} {w4 : Int64} {w5 : Int64} {w6 : Nat → Int32} {w7 : Nat → Int32} {w8 : Nat → Int32} {w9 : Nat → Int32} {w10 : Nat → Int32} {w11 : Nat → Int64} {w12 : Nat → Int64} {w13 : Nat → Int64} {w14 : Nat → Int64} {w15 : Nat → Int64} : (sgM_next σ w0 w1 w2 w3 w4 w5 w6 w7 w8 w9 w10 w11 w12 w13 w14 w15).2.2.2.1 635 = w14 := rfl
theorem sgM_next_raL637 {σ : Sto} {w0 : Int32} {w1 : Int32} {w2 : Int32} {w3 : Int64} {w4 : Int64} {w5 : Int64} {w6 : Nat → Int32} {w7 : Nat → Int32} {w8 : Nat → Int32} {w9 : Nat → Int32} {w10 : Nat → Int32} {w11 : Nat → Int64} {w12 : Nat → Int64} {w13 : Nat → Int64} {w14 : Nat → Int64} {w15 : Nat → Int64} : (sgM_next σ w0 w1 w2 w3 w4 w5 w6 w7 w8 w9 w10 w11 w12 w13 w14 w15).2.2.2.1 637 = w15 := rfl
abbrev rmM_next : Room := { frames := 11, cells := 0, slots := 0, locals := 267 }
set_option maxHeartbeats 4000000 in
theorem wkM_next {x1 : Int32} {x2 : Int32} {x3 : Int32} {r_ : Int32} {w_zI502 : Int32} {w_zI545 : Int32} {w_zI546 : Int32} {w_zL538 : Int64} {w_zL539 : Int64} {w_zL547 : Int64} {w_aI629 : Nat → Int32} {w_aI631 : Nat → Int32} {w_aI632 : Nat → Int32} {w_aI636 : Nat → Int32} {w_aI640 : Nat → Int32} {w_aL630 : Nat → Int64} {w_aL633 : Nat → Int64} {w_aL634 : Nat → Int64} {w_aL635 : Nat → Int64} {w_aL637 : Nat → Int64} (E : EN p s m args meth c0 RX16 cX16_next 4 (Option.some Jvm.ClassFile.FieldType.int)) (hK : KK D clsA G s) (hA : ∀ q, PA dscM ad s.heap.size q → A q) (hf : mo_next (σ.1 502) (σ.1 522) (σ.1 523) (σ.1 541) (σ.1 543) (σ.1 545) (σ.1 546) (σ.2.1 538) (σ.2.1 539) (σ.2.1 547) (σ.2.2.1 611) (σ.2.2.1 615) (σ.2.2.1 618) (σ.2.2.1 620) (σ.2.2.1 621) (σ.2.2.1 624) (σ.2.2.1 625) (σ.2.2.1 629) (σ.2.2.1 631) (σ.2.2.1 632) (σ.2.2.1 636) (σ.2.2.1 640) (σ.2.2.1 642) (σ.2.2.1 644) (σ.2.2.2.1 626) (σ.2.2.2.1 628) (σ.2.2.2.1 630) (σ.2.2.2.1 633) (σ.2.2.2.1 634) (σ.2.2.2.1 635) (σ.2.2.2.1 637) x1 x2 x3 = some (r_, w_zI502, w_zI545, w_zI546, w_zL538, w_zL539, w_zL547, w_aI629, w_aI631, w_aI632, w_aI636, w_aI640, w_aL630, w_aL633, w_aL634, w_aL635, w_aL637)) (hQ : Q = MQ below (va_Qi (fun x (_ : Unit) => x = r_) (fun _ t => PM D G ad (sgM_next σ w_zI502 w_zI545 w_zI546 w_zL538 w_zL539 w_zL547 w_aI629 w_aI631 w_aI632 w_aI636 w_aI640 w_aL630 w_aL633 w_aL634 w_aL635 w_aL637) t.heap ∧ KK D clsA G t) A) args s 0 0 A) (hP : PM D G ad σ H) (hS : va_S A s.heap H locs) (hl : lv_has ls 4 [(0, .ref (ad 500)), (1, .int x1), (2, .int x2), (3, .int x3)]) : W p l e rmM_next s m args below meth c0 H locs 0 0 Q (F0 m 0 ls []) := by
  obtain ⟨⟨hx, hb, hml, hown, hts⟩, hr, hlk⟩ := id E
  have hP := hP.to (sgM_next_self σ).symm
  unfold mo_next at hf
  refine lv_aload_n hx hb dX16_next_0 rfl (lv_at hl 0 rfl) ?_
  refine lv_iconst hx hb dX16_next_1 ic_0 ?_
  refine uM_2 E hK hP hS (hA _ (PA_c dM_500)) sgM_next_zI502 dX16_next_2 (fun H locs hP hS => ?_)
  refine lv_iload_n hx hb dX16_next_5 rfl (lv_at hl 1 rfl) ?_
  obtain ⟨v1, u2, hf⟩ := bdP hf
  refine cM_isPlan E hK hP hS hA u2 ⟨Nat.le_of_ble_eq_true rfl, Nat.le_of_ble_eq_true rfl⟩ ⟨Nat.zero_le _, Nat.zero_le _⟩ hl.1 (Nat.le_of_ble_eq_true rfl) dX16_next_6 (fun H locs hP hS => ?_)
  refine lv_if_eq (tgt := 55) hx hb dX16_next_9 (by decide) (fun c3 => ?_) (fun c3 => ?_)
  · have hf := ifT c3 hf
    refine lv_iconst hx hb dX16_next_55 ic_m1 ?_
    cases hf
    rw [hQ]; exact p_iret hx hb hr hlk hK hP hS dX16_next_56
  · have hf := ifF c3 hf
    refine lv_aload_n hx hb dX16_next_12 rfl (lv_at hl 0 rfl) ?_
    obtain ⟨v4, u5, hf⟩ := bdP hf
    refine cM_hasEnds E hK hP hS hA sgM_next_raI611 u5 ⟨Nat.le_of_ble_eq_true rfl, Nat.le_of_ble_eq_true rfl⟩ ⟨Nat.zero_le _, Nat.zero_le _⟩ hl.1 (Nat.le_of_ble_eq_true rfl) dX16_next_13 (fun H locs hP hS => ?_)
    refine lv_if_eq (tgt := 55) hx hb dX16_next_16 (by decide) (fun c6 => ?_) (fun c6 => ?_)
    · have hf := ifT c6 hf
      refine lv_iconst hx hb dX16_next_55 ic_m1 ?_
      cases hf
      rw [hQ]; exact p_iret hx hb hr hlk hK hP hS dX16_next_56
    · have hf := ifF c6 hf
      refine lv_aload_n hx hb dX16_next_19 rfl (lv_at hl 0 rfl) ?_
      refine lv_iload_n hx hb dX16_next_20 rfl (lv_at hl 2 rfl) ?_
      obtain ⟨v7, u8, hf⟩ := bdP hf
      refine cM_isPlace E hK hP hS hA sgM_next_raI611 u8 ⟨Nat.le_of_ble_eq_true rfl, Nat.le_of_ble_eq_true rfl⟩ ⟨Nat.zero_le _, Nat.zero_le _⟩ hl.1 (Nat.le_of_ble_eq_true rfl) dX16_next_21 (fun H locs hP hS => ?_)
      refine lv_if_eq (tgt := 55) hx hb dX16_next_24 (by decide) (fun c9 => ?_) (fun c9 => ?_)
      · have hf := ifT c9 hf
        refine lv_iconst hx hb dX16_next_55 ic_m1 ?_
        cases hf
        rw [hQ]; exact p_iret hx hb hr hlk hK hP hS dX16_next_56
      · have hf := ifF c9 hf
        refine lv_aload_n hx hb dX16_next_27 rfl (lv_at hl 0 rfl) ?_
        refine lv_iload_n hx hb dX16_next_28 rfl (lv_at hl 3 rfl) ?_
        obtain ⟨v10, u11, hf⟩ := bdP hf
        refine cM_isKnowing E hK hP hS hA sgM_next_rzI523 u11 ⟨Nat.le_of_ble_eq_true rfl, Nat.le_of_ble_eq_true rfl⟩ ⟨Nat.zero_le _, Nat.zero_le _⟩ hl.1 (Nat.le_of_ble_eq_true rfl) dX16_next_29 (fun H locs hP hS => ?_)
        refine lv_if_eq (tgt := 55) hx hb dX16_next_32 (by decide) (fun c12 => ?_) (fun c12 => ?_)
        · have hf := ifT c12 hf
          refine lv_iconst hx hb dX16_next_55 ic_m1 ?_
          cases hf
          rw [hQ]; exact p_iret hx hb hr hlk hK hP hS dX16_next_56
        · have hf := ifF c12 hf
          refine lv_aload_n hx hb dX16_next_35 rfl (lv_at hl 0 rfl) ?_
          refine gM_28 E hK hP dX16_next_36 ?_
          refine lv_iload_n hx hb dX16_next_39 rfl (lv_at hl 3 rfl) ?_
          obtain ⟨v13, hv13, hf⟩ := bdP hf
          refine p_lald hx hb hK hP dM_628 sgM_next_raL628 hv13 dX16_next_40 ?_
          refine lv_lconst hx hb dX16_next_41 lc_0 ?_
          refine W.lcmp hx hb dX16_next_42 ?_
          refine lv_if_eq (tgt := 55) hx hb dX16_next_43 (by decide) (fun c14 => ?_) (fun c14 => ?_)
          · have hf := ifT ((lgc_eq _ _).mp c14) hf
            refine lv_iconst hx hb dX16_next_55 ic_m1 ?_
            cases hf
            rw [hQ]; exact p_iret hx hb hr hlk hK hP hS dX16_next_56
          · have hf := ifF (mt (lgc_eq _ _).mpr c14) hf
            refine lv_aload_n hx hb dX16_next_46 rfl (lv_at hl 0 rfl) ?_
            refine lv_iload_n hx hb dX16_next_47 rfl (lv_at hl 2 rfl) ?_
            refine lv_iload_n hx hb dX16_next_48 rfl (lv_at hl 3 rfl) ?_
            obtain ⟨v15, u16, hf⟩ := bdP hf
            refine cM_isSeen E hK hP hS hA sgM_next_raI611 sgM_next_raI620 sgM_next_raI624 u16 ⟨Nat.le_of_ble_eq_true rfl, Nat.le_of_ble_eq_true rfl⟩ ⟨Nat.zero_le _, Nat.zero_le _⟩ hl.1 (Nat.le_of_ble_eq_true rfl) dX16_next_49 (fun H locs hP hS => ?_)
            refine lv_if_ne (tgt := 57) hx hb dX16_next_52 (by decide) (fun c17 => ?_) (fun c17 => ?_)
            · have hf := ifF c17 hf
              refine lv_aload_n hx hb dX16_next_57 rfl (lv_at hl 0 rfl) ?_
              refine lv_iload_n hx hb dX16_next_58 rfl (lv_at hl 1 rfl) ?_
              obtain ⟨⟨z18, z19, z20, z21, z22, a23, a24, a25, a26, a27, a28, a29, a30, a31, a32⟩, u33, hf⟩ := bdP hf
              dsimp only at hf
              refine cM_layPlan E hK hP hS hA sgM_next_rzI522 sgM_next_rzI523 sgM_next_rzI541 sgM_next_rzI543 sgM_next_rzI545 sgM_next_rzI546 sgM_next_rzL538 sgM_next_rzL539 sgM_next_rzL547 sgM_next_raI611 sgM_next_raI615 sgM_next_raI618 sgM_next_raI620 sgM_next_raI621 sgM_next_raI624 sgM_next_raI625 sgM_next_raI629 sgM_next_raI631 sgM_next_raI632 sgM_next_raI636 sgM_next_raI640 sgM_next_raI642 sgM_next_raI644 sgM_next_raL626 sgM_next_raL628 sgM_next_raL630 sgM_next_raL633 sgM_next_raL634 sgM_next_raL635 sgM_next_raL637 u33 ⟨Nat.le_of_ble_eq_true rfl, Nat.le_of_ble_eq_true rfl⟩ ⟨Nat.zero_le _, Nat.zero_le _⟩ hl.1 (Nat.le_of_ble_eq_true rfl) dX16_next_59 (fun H locs hP hS => ?_)
              rw [sgM_next_zI545, sgM_next_zI546, sgM_next_zL538, sgM_next_zL539, sgM_next_zL547, sgM_next_aI629, sgM_next_aI631, sgM_next_aI632, sgM_next_aI636, sgM_next_aI640, sgM_next_aL630, sgM_next_aL633, sgM_next_aL634, sgM_next_aL635, sgM_next_aL637] at hP
              refine lv_iload_n hx hb dX16_next_62 rfl (lv_at hl 2 rfl) ?_
              refine lv_aload_n hx hb dX16_next_63 rfl (lv_at hl 0 rfl) ?_
              refine gM_11 E hK hP dX16_next_64 ?_
              refine lv_bipush hx hb dX16_next_67 bp_7 ?_
              obtain ⟨v34, hv34, hf⟩ := bdP hf
              refine p_iald hx hb hK hP dM_611 sgM_next_raI611 hv34 dX16_next_69 ?_
              refine lv_icmp_ne (tgt := 78) hx hb dX16_next_70 (by decide) (fun c35 => ?_) (fun c35 => ?_)
              · have hf := ifF c35 hf
                refine lv_aload_n hx hb dX16_next_78 rfl (lv_at hl 0 rfl) ?_
                refine lv_iload_n hx hb dX16_next_79 rfl (lv_at hl 1 rfl) ?_
                refine lv_iload_n hx hb dX16_next_80 rfl (lv_at hl 2 rfl) ?_
                refine lv_iload_n hx hb dX16_next_81 rfl (lv_at hl 3 rfl) ?_
                obtain ⟨⟨v36, a37, a38⟩, u39, hf⟩ := bdP hf
                dsimp only at hf
                refine cM_actOf E hK hP hS hA sgM_next_rzI541 sgM_next_rzI543 sgM_next_raI611 sgM_next_raI615 sgM_next_raI621 sgM_next_raI624 sgM_next_raI629 sgM_next_raI631 sgM_next_raI640 sgM_next_raI642 sgM_next_raI644 u39 ⟨Nat.le_of_ble_eq_true rfl, Nat.le_of_ble_eq_true rfl⟩ ⟨Nat.zero_le _, Nat.zero_le _⟩ hl.1 (Nat.le_of_ble_eq_true rfl) dX16_next_82 (fun H locs hP hS => ?_)
                rw [sgM_next_aI629, sgM_next_aI640] at hP
                cases hf
                rw [hQ]; exact p_iret hx hb hr hlk hK hP hS dX16_next_85
              · have hf := ifT c35 hf
                refine lv_bipush hx hb dX16_next_73 bp_m2 ?_
                refine lv_goto (tgt := 85) hx hb dX16_next_75 (by decide) ?_
                cases hf
                rw [hQ]; exact p_iret hx hb hr hlk hK hP hS dX16_next_85
            · have hf := ifT c17 hf
              refine lv_iconst hx hb dX16_next_55 ic_m1 ?_
              cases hf
              rw [hQ]; exact p_iret hx hb hr hlk hK hP hS dX16_next_56
theorem kM_next (l : Launch) (D : va_G) (G : Nat → ClassId) (ad : Nat → Nat) (σ : Sto) {x1 : Int32} {x2 : Int32} {x3 : Int32} {r_ : Int32} {w_zI502 : Int32} {w_zI545 : Int32} {w_zI546 : Int32} {w_zL538 : Int64} {w_zL539 : Int64} {w_zL547 : Int64} {w_aI629 : Nat → Int32} {w_aI631 : Nat → Int32} {w_aI632 : Nat → Int32} {w_aI636 : Nat → Int32} {w_aI640 : Nat → Int32} {w_aL630 : Nat → Int64} {w_aL633 : Nat → Int64} {w_aL634 : Nat → Int64} {w_aL635 : Nat → Int64} {w_aL637 : Nat → Int64} (hf : mo_next (σ.1 502) (σ.1 522) (σ.1 523) (σ.1 541) (σ.1 543) (σ.1 545) (σ.1 546) (σ.2.1 538) (σ.2.1 539) (σ.2.1 547) (σ.2.2.1 611) (σ.2.2.1 615) (σ.2.2.1 618) (σ.2.2.1 620) (σ.2.2.1 621) (σ.2.2.1 624) (σ.2.2.1 625) (σ.2.2.1 629) (σ.2.2.1 631) (σ.2.2.1 632) (σ.2.2.1 636) (σ.2.2.1 640) (σ.2.2.1 642) (σ.2.2.1 644) (σ.2.2.2.1 626) (σ.2.2.2.1 628) (σ.2.2.2.1 630) (σ.2.2.2.1 633) (σ.2.2.2.1 634) (σ.2.2.2.1 635) (σ.2.2.2.1 637) x1 x2 x3 = some (r_, w_zI502, w_zI545, w_zI546, w_zL538, w_zL539, w_zL547, w_aI629, w_aI631, w_aI632, w_aI636, w_aI640, w_aL630, w_aL633, w_aL634, w_aL635, w_aL637)) : CtI l D clsA G dscM ad yX16_next (ws_ yX16_next cX16_next 4 (Option.some Jvm.ClassFile.FieldType.int)) rmM_next [.ref (ad 500), .int x1, .int x2, .int x3] σ r_ (sgM_next σ w_zI502 w_zI545 w_zI546 w_zL538 w_zL539 w_zL547 w_aI629 w_aI631 w_aI632 w_aI636 w_aI640 w_aL630 w_aL633 w_aL634 w_aL635 w_aL637) :=
  p_ctI (by decide +kernel) (Nat.le_of_ble_eq_true rfl) (fun p e s m below meth c0 ls A E hP hK hA hS hl => wkM_next E hK hA hf rfl hP hS hl)
/-! told(J)J -/
abbrev rmM_told : Room := { frames := 0, cells := 0, slots := 0, locals := 0 }
set_option maxHeartbeats 4000000 in
theorem wkM_told {x1 : Int64} {r_ : Int64} (E : EN p s m args meth c0 RX16 cX16_told 3 (Option.some Jvm.ClassFile.FieldType.long)) (hK : KK D clsA G s) (hA : ∀ q, PA dscM ad s.heap.size q → A q) (hf : mo_told x1 = some r_) (hQ : Q = MQ below (va_Ql (fun x (_ : Unit) => x = r_) (fun _ t => PM D G ad σ t.heap ∧ KK D clsA G t) A) args s 0 0 A) (hP : PM D G ad σ H) (hS : va_S A s.heap H locs) (hl : lv_has ls 3 [(0, .ref (ad 500)), (1, .long x1)]) : W p l e rmM_told s m args below meth c0 H locs 0 0 Q (F0 m 0 ls []) := by
  obtain ⟨⟨hx, hb, hml, hown, hts⟩, hr, hlk⟩ := id E
  unfold mo_told at hf
  refine lv_lload_n hx hb dX16_told_0 rfl (lv_at hl 1 rfl) ?_
  refine lv_ldc2 hx hb hown (hts _ q2050) dX16_told_1 ?_
  refine W.lcmp hx hb dX16_told_4 ?_
  refine lv_if_lt (tgt := 14) hx hb dX16_told_5 (by decide) (fun c1 => ?_) (fun c1 => ?_)
  · have hf := ifT ((lgc_lt _ _).mp c1) hf
    refine lv_lload_n hx hb dX16_told_14 rfl (lv_at hl 1 rfl) ?_
    cases hf
    rw [hQ]; exact p_lret hx hb hr hlk hK hP hS dX16_told_15
  · have hf := ifF (mt (lgc_lt _ _).mpr c1) hf
    refine lv_ldc2 hx hb hown (hts _ q2136) dX16_told_8 ?_
    refine lv_goto (tgt := 15) hx hb dX16_told_11 (by decide) ?_
    cases hf
    rw [hQ]; exact p_lret hx hb hr hlk hK hP hS dX16_told_15
theorem kM_told (l : Launch) (D : va_G) (G : Nat → ClassId) (ad : Nat → Nat) (σ : Sto) {x1 : Int64} {r_ : Int64} (hf : mo_told x1 = some r_) : CtL l D clsA G dscM ad yX16_told (ws_ yX16_told cX16_told 3 (Option.some Jvm.ClassFile.FieldType.long)) rmM_told [.ref (ad 500), .long x1] σ r_ σ :=
  p_ctL (by decide +kernel) (Nat.le_of_ble_eq_true rfl) (fun p e s m below meth c0 ls A E hP hK hA hS hl => wkM_told E hK hA hf rfl hP hS hl)
theorem cM_told (E : EN p s m args meth c0 RX16 cc nL ret) (hK : KK D clsA G s) (hP : PM D G ad σ H) (hS : va_S A s.heap H locs) (hA : ∀ q, PA dscM ad s.heap.size q → A q) {x1 : Int64} {r_ : Int64} (hu : mo_told x1 = some r_) (hR : rmM_told.frames + 1 ≤ R.frames ∧ 8 + (3 + 11) + rmM_told.locals ≤ R.locals) (hcs : cells ≤ R.cells ∧ slots ≤ R.slots) (hsz : ls.size = nL) (hW : (rest.map fun v => v.category).sum ≤ 8) (hdg : decode cc pc = .ok (.invokevirtual 435, 3)) (kk : ∀ (H1 : Heap) (locs1 : List Loc), PM D G ad σ H1 → va_S A s.heap H1 locs1 → W p l e R s m args below meth c0 H1 locs1 cells slots Q (F0 m (pc + 3) ls (.long r_ :: rest))) : W p l e R s m args below meth c0 H locs cells slots Q (F0 m pc ls (.long x1 :: .ref (ad 500) :: rest)) := by
  exact p_callL (As := [.long x1]) (rest := rest) E.1 hK hP hS hA (kM_told l D G ad σ hu) (cwV 1 E.1.2.2.2.2 (lw_V q2169 q2171 qs113 q142 q2172) rfl rfl rfl (by decide +kernel) hR) dM_500 rfl rfl rfl hsz rfl hW hdg hcs kk
/-! from(II)J -/
def sgM_from (σ : Sto) (w0 : Int32) (w1 : Nat → Int32) (w2 : Nat → Int32) (w3 : Nat → Int32) (w4 : Nat → Int64) (w5 : Nat → Int64) (w6 : Nat → Int64) : Sto := aL (aL (aL (aI (aI (aI (zI σ 502 w0) 631 w1) 632 w2) 636 w3) 630 w4) 635 w5) 637 w6
theorem sgM_from_self (σ : Sto) : sgM_from σ (σ.1 502) (σ.2.2.1 631) (σ.2.2.1 632) (σ.2.2.1 636) (σ.2.2.2.1 630) (σ.2.2.2.1 635) (σ.2.2.2.1 637) = σ := by
  unfold sgM_from
  simp only [zI_self, zL_self, aI_self, aL_self]
theorem sgM_from_zI502 {σ : Sto} {w0 : Int32} {w1 : Nat → Int32} {w2 : Nat → Int32} {w3 : Nat → Int32} {w4 : Nat → Int64} {w5 : Nat → Int64} {w6 : Nat → Int64} {g : Int32} : zI (sgM_from σ w0 w1 w2 w3 w4 w5 w6) 502 g = sgM_from σ g w1 w2 w3 w4 w5 w6 := (cm_zI_aL _ _ _ _ _).trans (congrArg (fun z => aL z 637 w6) ((cm_zI_aL _ _ _ _ _).trans (congrArg (fun z => aL z 635 w5) ((cm_zI_aL _ _ _ _ _).trans (congrArg (fun z => aL z 630 w4) ((cm_zI_aI _ _ _ _ _).trans (congrArg (fun z => aI z 636 w3) ((cm_zI_aI _ _ _ _ _).trans (congrArg (fun z => aI z 632 w2) ((cm_zI_aI _ _ _ _ _).trans (congrArg (fun z => aI z 631 w1) (zI_zI _ 502 _ _))))))))))))
theorem sgM_from_aI631 {σ : Sto} {w0 : Int32} {w1 : Nat → Int32} {w2 : Nat → Int32} {w3 : Nat → Int32} {w4 : Nat → Int64} {w5 : Nat → Int64} {w6 : Nat → Int64} {g : Nat → Int32} : aI (sgM_from σ w0 w1 w2 w3 w4 w5 w6) 631 g = sgM_from σ w0 g w2 w3 w4 w5 w6 := (cm_aI_aL _ _ _ _ _).trans (congrArg (fun z => aL z 637 w6) ((cm_aI_aL _ _ _ _ _).trans (congrArg (fun z => aL z 635 w5) ((cm_aI_aL _ _ _ _ _).trans (congrArg (fun z => aL z 630 w4) ((aI_comm _ (by decide) _ _).trans (congrArg (fun z => aI z 636 w3) ((aI_comm _ (by decide) _ _).trans (congrArg (fun z => aI z 632 w2) (aI_aI _ 631 _ _))))))))))
theorem sgM_from_aI632 {σ : Sto} {w0 : Int32} {w1 : Nat → Int32} {w2 : Nat → Int32} {w3 : Nat → Int32} {w4 : Nat → Int64} {w5 : Nat → Int64} {w6 : Nat → Int64} {g : Nat → Int32} : aI (sgM_from σ w0 w1 w2 w3 w4 w5 w6) 632 g = sgM_from σ w0 w1 g w3 w4 w5 w6 := (cm_aI_aL _ _ _ _ _).trans (congrArg (fun z => aL z 637 w6) ((cm_aI_aL _ _ _ _ _).trans (congrArg (fun z => aL z 635 w5) ((cm_aI_aL _ _ _ _ _).trans (congrArg (fun z => aL z 630 w4) ((aI_comm _ (by decide) _ _).trans (congrArg (fun z => aI z 636 w3) (aI_aI _ 632 _ _))))))))
theorem sgM_from_aI636 {σ : Sto} {w0 : Int32} {w1 : Nat → Int32} {w2 : Nat → Int32} {w3 : Nat → Int32} {w4 : Nat → Int64} {w5 : Nat → Int64} {w6 : Nat → Int64} {g : Nat → Int32} : aI (sgM_from σ w0 w1 w2 w3 w4 w5 w6) 636 g = sgM_from σ w0 w1 w2 g w4 w5 w6 := (cm_aI_aL _ _ _ _ _).trans (congrArg (fun z => aL z 637 w6) ((cm_aI_aL _ _ _ _ _).trans (congrArg (fun z => aL z 635 w5) ((cm_aI_aL _ _ _ _ _).trans (congrArg (fun z => aL z 630 w4) (aI_aI _ 636 _ _))))))
theorem sgM_from_aL630 {σ : Sto} {w0 : Int32} {w1 : Nat → Int32} {w2 : Nat → Int32} {w3 : Nat → Int32} {w4 : Nat → Int64} {w5 : Nat → Int64} {w6 : Nat → Int64} {g : Nat → Int64} : aL (sgM_from σ w0 w1 w2 w3 w4 w5 w6) 630 g = sgM_from σ w0 w1 w2 w3 g w5 w6 := (aL_comm _ (by decide) _ _).trans (congrArg (fun z => aL z 637 w6) ((aL_comm _ (by decide) _ _).trans (congrArg (fun z => aL z 635 w5) (aL_aL _ 630 _ _))))
theorem sgM_from_aL635 {σ : Sto} {w0 : Int32} {w1 : Nat → Int32} {w2 : Nat → Int32} {w3 : Nat → Int32} {w4 : Nat → Int64} {w5 : Nat → Int64} {w6 : Nat → Int64} {g : Nat → Int64} : aL (sgM_from σ w0 w1 w2 w3 w4 w5 w6) 635 g = sgM_from σ w0 w1 w2 w3 w4 g w6 := (aL_comm _ (by decide) _ _).trans (congrArg (fun z => aL z 637 w6) (aL_aL _ 635 _ _))
theorem sgM_from_aL637 {σ : Sto} {w0 : Int32} {w1 : Nat → Int32} {w2 : Nat → Int32} {w3 : Nat → Int32} {w4 : Nat → Int64} {w5 : Nat → Int64} {w6 : Nat → Int64} {g : Nat → Int64} : aL (sgM_from σ w0 w1 w2 w3 w4 w5 w6) 637 g = sgM_from σ w0 w1 w2 w3 w4 w5 g := aL_aL _ 637 _ _
theorem sgM_from_rzI502 {σ : Sto} {w0 : Int32} {w1 : Nat → Int32} {w2 : Nat → Int32} {w3 : Nat → Int32} {w4 : Nat → Int64} {w5 : Nat → Int64} {w6 : Nat → Int64} : (sgM_from σ w0 w1 w2 w3 w4 w5 w6).1 502 = w0 := rfl
theorem sgM_from_rzI523 {σ : Sto} {w0 : Int32} {w1 : Nat → Int32} {w2 : Nat → Int32} {w3 : Nat → Int32} {w4 : Nat → Int64} {w5 : Nat → Int64} {w6 : Nat → Int64} : (sgM_from σ w0 w1 w2 w3 w4 w5 w6).1 523 = σ.1 523 := rfl
theorem sgM_from_raI611 {σ : Sto} {w0 : Int32} {w1 : Nat → Int32} {w2 : Nat → Int32} {w3 : Nat → Int32} {w4 : Nat → Int64} {w5 : Nat → Int64} {w6 : Nat → Int64} : (sgM_from σ w0 w1 w2 w3 w4 w5 w6).2.2.1 611 = σ.2.2.1 611 := rfl
theorem sgM_from_raI615 {σ : Sto} {w0 : Int32} {w1 : Nat → Int32} {w2 : Nat → Int32} {w3 : Nat → Int32} {w4 : Nat → Int64} {w5 : Nat → Int64} {w6 : Nat → Int64} : (sgM_from σ w0 w1 w2 w3 w4 w5 w6).2.2.1 615 = σ.2.2.1 615 := rfl
theorem sgM_from_raI618 {σ : Sto} {w0 : Int32} {w1 : Nat → Int32} {w2 : Nat → Int32} {w3 : Nat → Int32} {w4 : Nat → Int64} {w5 : Nat → Int64} {w6 : Nat → Int64} : (sgM_from σ w0 w1 w2 w3 w4 w5 w6).2.2.1 618 = σ.2.2.1 618 := rfl
theorem sgM_from_raI620 {σ : Sto} {w0 : Int32} {w1 : Nat → Int32} {w2 : Nat → Int32} {w3 : Nat → Int32} {w4 : Nat → Int64} {w5 : Nat → Int64} {w6 : Nat → Int64} : (sgM_from σ w0 w1 w2 w3 w4 w5 w6).2.2.1 620 = σ.2.2.1 620 := rfl
theorem sgM_from_raI621 {σ : Sto} {w0 : Int32} {w1 : Nat → Int32} {w2 : Nat → Int32} {w3 : Nat → Int32} {w4 : Nat → Int64} {w5 : Nat → Int64} {w6 : Nat → Int64} : (sgM_from σ w0 w1 w2 w3 w4 w5 w6).2.2.1 621 = σ.2.2.1 621 := rfl
theorem sgM_from_raI624 {σ : Sto} {w0 : Int32} {w1 : Nat → Int32} {w2 : Nat → Int32} {w3 : Nat → Int32} {w4 : Nat → Int64} {w5 : Nat → Int64} {w6 : Nat → Int64} : (sgM_from σ w0 w1 w2 w3 w4 w5 w6).2.2.1 624 = σ.2.2.1 624 := rfl
theorem sgM_from_raI625 {σ : Sto} {w0 : Int32} {w1 : Nat → Int32} {w2 : Nat → Int32} {w3 : Nat → Int32} {w4 : Nat → Int64} {w5 : Nat → Int64} {w6 : Nat → Int64} : (sgM_from σ w0 w1 w2 w3 w4 w5 w6).2.2.1 625 = σ.2.2.1 625 := rfl
theorem sgM_from_raI631 {σ : Sto} {w0 : Int32} {w1 : Nat → Int32} {w2 : Nat → Int32} {w3 : Nat → Int32} {w4 : Nat → Int64} {w5 : Nat → Int64} {w6 : Nat → Int64} : (sgM_from σ w0 w1 w2 w3 w4 w5 w6).2.2.1 631 = w1 := rfl
theorem sgM_from_raI632 {σ : Sto} {w0 : Int32} {w1 : Nat → Int32} {w2 : Nat → Int32} {w3 : Nat → Int32} {w4 : Nat → Int64} {w5 : Nat → Int64} {w6 : Nat → Int64} : (sgM_from σ w0 w1 w2 w3 w4 w5 w6).2.2.1 632 = w2 := rfl
theorem sgM_from_raI636 {σ : Sto} {w0 : Int32} {w1 : Nat → Int32} {w2 : Nat → Int32} {w3 : Nat → Int32} {w4 : Nat → Int64} {w5 : Nat → Int64} {w6 : Nat → Int64} : (sgM_from σ w0 w1 w2 w3 w4 w5 w6).2.2.1 636 = w3 := rfl
theorem sgM_from_raL628 {σ : Sto} {w0 : Int32} {w1 : Nat → Int32} {w2 : Nat → Int32} {w3 : Nat → Int32} {w4 : Nat → Int64} {w5 : Nat → Int64} {w6 : Nat → Int64} : (sgM_from σ w0 w1 w2 w3 w4 w5 w6).2.2.2.1 628 = σ.2.2.2.1 628 := rfl
theorem sgM_from_raL630 {σ : Sto} {w0 : Int32} {w1 : Nat → Int32} {w2 : Nat → Int32} {w3 : Nat → Int32} {w4 : Nat → Int64} {w5 : Nat → Int64} {w6 : Nat → Int64} : (sgM_from σ w0 w1 w2 w3 w4 w5 w6).2.2.2.1 630 = w4 := rfl
theorem sgM_from_raL634 {σ : Sto} {w0 : Int32} {w1 : Nat → Int32} {w2 : Nat → Int32} {w3 : Nat → Int32} {w4 : Nat → Int64} {w5 : Nat → Int64} {w6 : Nat → Int64} : (sgM_from σ w0 w1 w2 w3 w4 w5 w6).2.2.2.1 634 = σ.2.2.2.1 634 := rfl
theorem sgM_from_raL635 {σ : Sto} {w0 : Int32} {w1 : Nat → Int32} {w2 : Nat → Int32} {w3 : Nat → Int32} {w4 : Nat → Int64} {w5 : Nat → Int64} {w6 : Nat → Int64} : (sgM_from σ w0 w1 w2 w3 w4 w5 w6).2.2.2.1 635 = w5 := rfl
theorem sgM_from_raL637 {σ : Sto} {w0 : Int32} {w1 : Nat → Int32} {w2 : Nat → Int32} {w3 : Nat → Int32} {w4 : Nat → Int64} {w5 : Nat → Int64} {w6 : Nat → Int64} : (sgM_from σ w0 w1 w2 w3 w4 w5 w6).2.2.2.1 637 = w6 := rfl
abbrev rmM_from : Room := { frames := 7, cells := 0, slots := 0, locals := 176 }
set_option maxHeartbeats 4000000 in
theorem wkM_from {x1 : Int32} {x2 : Int32} {r_ : Int64} {w_zI502 : Int32} {w_aI631 : Nat → Int32} {w_aI632 : Nat → Int32} {w_aI636 : Nat → Int32} {w_aL630 : Nat → Int64} {w_aL635 : Nat → Int64} {w_aL637 : Nat → Int64} (E : EN p s m args meth c0 RX16 cX16_from 3 (Option.some Jvm.ClassFile.FieldType.long)) (hK : KK D clsA G s) (hA : ∀ q, PA dscM ad s.heap.size q → A q) (hf : mo_from (σ.1 502) (σ.1 523) (σ.2.2.1 611) (σ.2.2.1 615) (σ.2.2.1 618) (σ.2.2.1 620) (σ.2.2.1 621) (σ.2.2.1 624) (σ.2.2.1 625) (σ.2.2.1 631) (σ.2.2.1 632) (σ.2.2.1 636) (σ.2.2.2.1 628) (σ.2.2.2.1 630) (σ.2.2.2.1 634) (σ.2.2.2.1 635) (σ.2.2.2.1 637) x1 x2 = some (r_, w_zI502, w_aI631, w_aI632, w_aI636, w_aL630, w_aL635, w_aL637)) (hQ : Q = MQ below (va_Ql (fun x (_ : Unit) => x = r_) (fun _ t => PM D G ad (sgM_from σ w_zI502 w_aI631 w_aI632 w_aI636 w_aL630 w_aL635 w_aL637) t.heap ∧ KK D clsA G t) A) args s 0 0 A) (hP : PM D G ad σ H) (hS : va_S A s.heap H locs) (hl : lv_has ls 3 [(0, .ref (ad 500)), (1, .int x1), (2, .int x2)]) : W p l e rmM_from s m args below meth c0 H locs 0 0 Q (F0 m 0 ls []) := by
  obtain ⟨⟨hx, hb, hml, hown, hts⟩, hr, hlk⟩ := id E
  have hP := hP.to (sgM_from_self σ).symm
  unfold mo_from at hf
  refine lv_aload_n hx hb dX16_from_0 rfl (lv_at hl 0 rfl) ?_
  refine lv_iconst hx hb dX16_from_1 ic_0 ?_
  refine uM_2 E hK hP hS (hA _ (PA_c dM_500)) sgM_from_zI502 dX16_from_2 (fun H locs hP hS => ?_)
  refine lv_aload_n hx hb dX16_from_5 rfl (lv_at hl 0 rfl) ?_
  refine lv_iload_n hx hb dX16_from_6 rfl (lv_at hl 1 rfl) ?_
  obtain ⟨v1, u2, hf⟩ := bdP hf
  refine cM_isPlace E hK hP hS hA sgM_from_raI611 u2 ⟨Nat.le_of_ble_eq_true rfl, Nat.le_of_ble_eq_true rfl⟩ ⟨Nat.zero_le _, Nat.zero_le _⟩ hl.1 (Nat.le_of_ble_eq_true rfl) dX16_from_7 (fun H locs hP hS => ?_)
  have J43 : mo_from_J43 (σ.2.2.1 631) (σ.2.2.1 632) (σ.2.2.1 636) (σ.2.2.2.1 630) (σ.2.2.2.1 635) (σ.2.2.2.1 637) = some (r_, w_zI502, w_aI631, w_aI632, w_aI636, w_aL630, w_aL635, w_aL637) → ∀ (H : Heap) (locs : List Loc), PM D G ad (sgM_from σ 0 (σ.2.2.1 631) (σ.2.2.1 632) (σ.2.2.1 636) (σ.2.2.2.1 630) (σ.2.2.2.1 635) (σ.2.2.2.1 637)) H → va_S A s.heap H locs → ∀ (ls : Array Slot), lv_has ls 3 [] → W p l e rmM_from s m args below meth c0 H locs 0 0 Q (F0 m 43 ls []) := by
    intro  hf H locs hP hS ls hl
    unfold mo_from_J43 at hf
    refine lv_ldc2 hx hb hown (hts _ q1970) dX16_from_43 ?_
    cases hf
    rw [hQ]; exact p_lret hx hb hr hlk hK hP hS dX16_from_46
  refine lv_if_eq (tgt := 43) hx hb dX16_from_10 (by decide) (fun c3 => ?_) (fun c3 => ?_)
  · have hf := ifT c3 hf
    exact J43  hf H locs hP hS ls (lv_sub hl [] rfl)
  · have hf := ifF c3 hf
    refine lv_aload_n hx hb dX16_from_13 rfl (lv_at hl 0 rfl) ?_
    refine lv_iload_n hx hb dX16_from_14 rfl (lv_at hl 2 rfl) ?_
    obtain ⟨v4, u5, hf⟩ := bdP hf
    refine cM_isKnowing E hK hP hS hA sgM_from_rzI523 u5 ⟨Nat.le_of_ble_eq_true rfl, Nat.le_of_ble_eq_true rfl⟩ ⟨Nat.zero_le _, Nat.zero_le _⟩ hl.1 (Nat.le_of_ble_eq_true rfl) dX16_from_15 (fun H locs hP hS => ?_)
    refine lv_if_eq (tgt := 43) hx hb dX16_from_18 (by decide) (fun c6 => ?_) (fun c6 => ?_)
    · have hf := ifT c6 hf
      exact J43  hf H locs hP hS ls (lv_sub hl [] rfl)
    · have hf := ifF c6 hf
      refine lv_aload_n hx hb dX16_from_21 rfl (lv_at hl 0 rfl) ?_
      refine gM_28 E hK hP dX16_from_22 ?_
      refine lv_iload_n hx hb dX16_from_25 rfl (lv_at hl 2 rfl) ?_
      obtain ⟨v7, hv7, hf⟩ := bdP hf
      refine p_lald hx hb hK hP dM_628 sgM_from_raL628 hv7 dX16_from_26 ?_
      refine lv_lconst hx hb dX16_from_27 lc_0 ?_
      refine W.lcmp hx hb dX16_from_28 ?_
      refine lv_if_eq (tgt := 43) hx hb dX16_from_29 (by decide) (fun c8 => ?_) (fun c8 => ?_)
      · have hf := ifT ((lgc_eq _ _).mp c8) hf
        exact J43  hf H locs hP hS ls (lv_sub hl [] rfl)
      · have hf := ifF (mt (lgc_eq _ _).mpr c8) hf
        refine lv_aload_n hx hb dX16_from_32 rfl (lv_at hl 0 rfl) ?_
        refine gM_11 E hK hP dX16_from_33 ?_
        refine lv_bipush hx hb dX16_from_36 bp_7 ?_
        obtain ⟨v9, hv9, hf⟩ := bdP hf
        refine p_iald hx hb hK hP dM_611 sgM_from_raI611 hv9 dX16_from_38 ?_
        refine lv_iconst hx hb dX16_from_39 ic_m1 ?_
        refine lv_icmp_ne (tgt := 47) hx hb dX16_from_40 (by decide) (fun c10 => ?_) (fun c10 => ?_)
        · have hf := ifF c10 hf
          refine lv_aload_n hx hb dX16_from_47 rfl (lv_at hl 0 rfl) ?_
          obtain ⟨⟨a11, a12, a13, a14, a15, a16⟩, u17, hf⟩ := bdP hf
          dsimp only at hf
          refine cM_layBest E hK hP hS hA sgM_from_rzI523 sgM_from_raI611 sgM_from_raI615 sgM_from_raI618 sgM_from_raI620 sgM_from_raI621 sgM_from_raI624 sgM_from_raI625 sgM_from_raI631 sgM_from_raI632 sgM_from_raI636 sgM_from_raL628 sgM_from_raL630 sgM_from_raL634 sgM_from_raL635 sgM_from_raL637 u17 ⟨Nat.le_of_ble_eq_true rfl, Nat.le_of_ble_eq_true rfl⟩ ⟨Nat.zero_le _, Nat.zero_le _⟩ hl.1 (Nat.le_of_ble_eq_true rfl) dX16_from_48 (fun H locs hP hS => ?_)
          rw [sgM_from_aI631, sgM_from_aI632, sgM_from_aI636, sgM_from_aL630, sgM_from_aL635, sgM_from_aL637] at hP
          refine lv_aload_n hx hb dX16_from_51 rfl (lv_at hl 0 rfl) ?_
          refine lv_aload_n hx hb dX16_from_52 rfl (lv_at hl 0 rfl) ?_
          refine lv_iconst hx hb dX16_from_53 ic_0 ?_
          refine lv_iconst hx hb dX16_from_54 ic_1 ?_
          refine lv_iload_n hx hb dX16_from_55 rfl (lv_at hl 1 rfl) ?_
          refine lv_iload_n hx hb dX16_from_56 rfl (lv_at hl 2 rfl) ?_
          obtain ⟨v18, u19, hf⟩ := bdP hf
          refine cM_arrives E hK hP hS hA sgM_from_raI611 sgM_from_raI620 sgM_from_raI624 sgM_from_raL628 sgM_from_raL630 u19 ⟨Nat.le_of_ble_eq_true rfl, Nat.le_of_ble_eq_true rfl⟩ ⟨Nat.zero_le _, Nat.zero_le _⟩ hl.1 (Nat.le_of_ble_eq_true rfl) dX16_from_57 (fun H locs hP hS => ?_)
          obtain ⟨v20, u21, hf⟩ := bdP hf
          refine cM_told E hK hP hS hA u21 ⟨Nat.le_of_ble_eq_true rfl, Nat.le_of_ble_eq_true rfl⟩ ⟨Nat.zero_le _, Nat.zero_le _⟩ hl.1 (Nat.le_of_ble_eq_true rfl) dX16_from_60 (fun H locs hP hS => ?_)
          cases hf
          rw [hQ]; exact p_lret hx hb hr hlk hK hP hS dX16_from_63
        · have hf := ifT c10 hf
          exact J43  hf H locs hP hS ls (lv_sub hl [] rfl)
theorem kM_from (l : Launch) (D : va_G) (G : Nat → ClassId) (ad : Nat → Nat) (σ : Sto) {x1 : Int32} {x2 : Int32} {r_ : Int64} {w_zI502 : Int32} {w_aI631 : Nat → Int32} {w_aI632 : Nat → Int32} {w_aI636 : Nat → Int32} {w_aL630 : Nat → Int64} {w_aL635 : Nat → Int64} {w_aL637 : Nat → Int64} (hf : mo_from (σ.1 502) (σ.1 523) (σ.2.2.1 611) (σ.2.2.1 615) (σ.2.2.1 618) (σ.2.2.1 620) (σ.2.2.1 621) (σ.2.2.1 624) (σ.2.2.1 625) (σ.2.2.1 631) (σ.2.2.1 632) (σ.2.2.1 636) (σ.2.2.2.1 628) (σ.2.2.2.1 630) (σ.2.2.2.1 634) (σ.2.2.2.1 635) (σ.2.2.2.1 637) x1 x2 = some (r_, w_zI502, w_aI631, w_aI632, w_aI636, w_aL630, w_aL635, w_aL637)) : CtL l D clsA G dscM ad yX16_from (ws_ yX16_from cX16_from 3 (Option.some Jvm.ClassFile.FieldType.long)) rmM_from [.ref (ad 500), .int x1, .int x2] σ r_ (sgM_from σ w_zI502 w_aI631 w_aI632 w_aI636 w_aL630 w_aL635 w_aL637) :=
  p_ctL (by decide +kernel) (Nat.le_of_ble_eq_true rfl) (fun p e s m below meth c0 ls A E hP hK hA hS hl => wkM_from E hK hA hf rfl hP hS hl)
/-! row(I)I -/
def sgM_row (σ : Sto) (w0 : Int32) (w1 : Int32) (w2 : Nat → Int32) : Sto := aI (zI (zI σ 502 w0) 541 w1) 642 w2
theorem sgM_row_self (σ : Sto) : sgM_row σ (σ.1 502) (σ.1 541) (σ.2.2.1 642) = σ := by
  unfold sgM_row
  simp only [zI_self, zL_self, aI_self, aL_self]
theorem sgM_row_zI502 {σ : Sto} {w0 : Int32} {w1 : Int32} {w2 : Nat → Int32} {g : Int32} : zI (sgM_row σ w0 w1 w2) 502 g = sgM_row σ g w1 w2 := (cm_zI_aI _ _ _ _ _).trans (congrArg (fun z => aI z 642 w2) ((zI_comm _ (by decide) _ _).trans (congrArg (fun z => zI z 541 w1) (zI_zI _ 502 _ _))))
theorem sgM_row_zI541 {σ : Sto} {w0 : Int32} {w1 : Int32} {w2 : Nat → Int32} {g : Int32} : zI (sgM_row σ w0 w1 w2) 541 g = sgM_row σ w0 g w2 := (cm_zI_aI _ _ _ _ _).trans (congrArg (fun z => aI z 642 w2) (zI_zI _ 541 _ _))
theorem sgM_row_aI642 {σ : Sto} {w0 : Int32} {w1 : Int32} {w2 : Nat → Int32} {g : Nat → Int32} : aI (sgM_row σ w0 w1 w2) 642 g = sgM_row σ w0 w1 g := aI_aI _ 642 _ _
theorem sgM_row_rzI502 {σ : Sto} {w0 : Int32} {w1 : Int32} {w2 : Nat → Int32} : (sgM_row σ w0 w1 w2).1 502 = w0 := rfl
theorem sgM_row_rzI541 {σ : Sto} {w0 : Int32} {w1 : Int32} {w2 : Nat → Int32} : (sgM_row σ w0 w1 w2).1 541 = w1 := rfl
theorem sgM_row_raI611 {σ : Sto} {w0 : Int32} {w1 : Int32} {w2 : Nat → Int32} : (sgM_row σ w0 w1 w2).2.2.1 611 = σ.2.2.1 611 := rfl
theorem sgM_row_raI642 {σ : Sto} {w0 : Int32} {w1 : Int32} {w2 : Nat → Int32} : (sgM_row σ w0 w1 w2).2.2.1 642 = w2 := rfl
abbrev rmM_row : Room := { frames := 2, cells := 0, slots := 0, locals := 41 }
set_option maxHeartbeats 4000000 in
theorem wkM_row {x1 : Int32} {r_ : Int32} {w_zI502 : Int32} {w_zI541 : Int32} {w_aI642 : Nat → Int32} (E : EN p s m args meth c0 RX16 cX16_row 3 (Option.some Jvm.ClassFile.FieldType.int)) (hK : KK D clsA G s) (hA : ∀ q, PA dscM ad s.heap.size q → A q) (hf : mo_row (σ.1 502) (σ.1 541) (σ.2.2.1 611) (σ.2.2.1 642) x1 = some (r_, w_zI502, w_zI541, w_aI642)) (hQ : Q = MQ below (va_Qi (fun x (_ : Unit) => x = r_) (fun _ t => PM D G ad (sgM_row σ w_zI502 w_zI541 w_aI642) t.heap ∧ KK D clsA G t) A) args s 0 0 A) (hP : PM D G ad σ H) (hS : va_S A s.heap H locs) (hl : lv_has ls 3 [(0, .ref (ad 500)), (1, .int x1)]) : W p l e rmM_row s m args below meth c0 H locs 0 0 Q (F0 m 0 ls []) := by
  obtain ⟨⟨hx, hb, hml, hown, hts⟩, hr, hlk⟩ := id E
  have hP := hP.to (sgM_row_self σ).symm
  unfold mo_row at hf
  refine lv_aload_n hx hb dX16_row_0 rfl (lv_at hl 0 rfl) ?_
  refine lv_iconst hx hb dX16_row_1 ic_0 ?_
  refine uM_2 E hK hP hS (hA _ (PA_c dM_500)) sgM_row_zI502 dX16_row_2 (fun H locs hP hS => ?_)
  refine lv_aload_n hx hb dX16_row_5 rfl (lv_at hl 0 rfl) ?_
  refine lv_iload_n hx hb dX16_row_6 rfl (lv_at hl 1 rfl) ?_
  obtain ⟨v1, u2, hf⟩ := bdP hf
  refine cM_isDoubtful E hK hP hS hA sgM_row_raI611 u2 ⟨Nat.le_of_ble_eq_true rfl, Nat.le_of_ble_eq_true rfl⟩ ⟨Nat.zero_le _, Nat.zero_le _⟩ hl.1 (Nat.le_of_ble_eq_true rfl) dX16_row_7 (fun H locs hP hS => ?_)
  refine lv_if_ne (tgt := 15) hx hb dX16_row_10 (by decide) (fun c3 => ?_) (fun c3 => ?_)
  · have hf := ifF c3 hf
    refine lv_iconst hx hb dX16_row_15 ic_0 ?_
    refine lv_istore_n (lv' := [(2, .int 0), (0, .ref (ad 500)), (1, .int x1)]) hx hb dX16_row_16 rfl hl (by decide) rfl (fun ls hl => ?_)
    have LP17 : ∀ (st17 : Int32) (ex17 : (Unit) ⊕ (Unit)), loop (mo_row_L17 (σ.1 541) (σ.2.2.1 642) x1) st17 = some ex17 → ∀ (H : Heap) (locs : List Loc), PM D G ad (sgM_row σ 0 (σ.1 541) (σ.2.2.1 642)) H → va_S A s.heap H locs → ∀ (ls : Array Slot), lv_has ls 3 [(0, .ref (ad 500)), (1, .int x1), (2, .int st17)] → (ex17 = (.inl (())) → ∀ (H : Heap) (locs : List Loc), PM D G ad (sgM_row σ 0 (σ.1 541) (σ.2.2.1 642)) H → va_S A s.heap H locs → ∀ (ls : Array Slot), lv_has ls 3 [] → W p l e rmM_row s m args below meth c0 H locs 0 0 Q (F0 m 35 ls [])) → (ex17 = (.inr ()) → ∀ (H : Heap) (locs : List Loc), PM D G ad (sgM_row σ 0 (σ.1 541) (σ.2.2.1 642)) H → va_S A s.heap H locs → ∀ (ls : Array Slot), lv_has ls 3 [(0, .ref (ad 500)), (1, .int x1)] → W p l e rmM_row s m args below meth c0 H locs 0 0 Q (F0 m 43 ls [])) → W p l e rmM_row s m args below meth c0 H locs 0 0 Q (F0 m 17 ls []) := by
      refine loop_P (fun st17 ex17 o17 hf ih17 hx17 => ?_)
      obtain ⟨y4, rfl⟩ : ∃ z, z = st17 := ⟨_, rfl⟩
      intro H locs (hP : PM D G ad (sgM_row σ 0 (σ.1 541) (σ.2.2.1 642)) H) hS ls (hl : lv_has ls 3 [(0, .ref (ad 500)), (1, .int x1), (2, .int y4)]) KE17_0 KE17_1
      dsimp only [mo_row_L17] at hf
      refine lv_iload_n hx hb dX16_row_17 rfl (lv_at hl 2 rfl) ?_
      refine lv_aload_n hx hb dX16_row_18 rfl (lv_at hl 0 rfl) ?_
      refine gM_41 (v := (σ.1 541)) E hK hP sgM_row_rzI541 dX16_row_19 ?_
      refine lv_icmp_ge (tgt := 43) hx hb dX16_row_22 (by decide) (fun c5 => ?_) (fun c5 => ?_)
      · have hf := ifT c5 hf
        exact KE17_1  (hx17 _ (Option.some.inj hf).symm).symm H locs hP hS ls (lv_sub hl [0, 1] rfl)
      · have hf := ifF c5 hf
        refine lv_aload_n hx hb dX16_row_25 rfl (lv_at hl 0 rfl) ?_
        refine gM_42 E hK hP dX16_row_26 ?_
        refine lv_iload_n hx hb dX16_row_29 rfl (lv_at hl 2 rfl) ?_
        obtain ⟨v6, hv6, hf⟩ := bdP hf
        refine p_iald hx hb hK hP dM_642 sgM_row_raI642 hv6 dX16_row_30 ?_
        refine lv_iload_n hx hb dX16_row_31 rfl (lv_at hl 1 rfl) ?_
        refine lv_icmp_ne (tgt := 37) hx hb dX16_row_32 (by decide) (fun c7 => ?_) (fun c7 => ?_)
        · have hf := ifF c7 hf
          obtain ⟨v8, hv8, hf⟩ := bdP hf
          refine lv_iinc (v := v8) (lv' := [(2, .int v8), (0, .ref (ad 500)), (1, .int x1)]) hx hb dX16_row_37 hl (k := 2) rfl (Option.some.inj hv8) (by decide) rfl (fun ls hl => ?_)
          refine lv_goto (tgt := 17) hx hb dX16_row_40 (by decide) ?_
          exact ih17 _ (Option.some.inj hf).symm H locs hP hS ls (lv_sub hl [1, 2, 0] rfl) KE17_0 KE17_1
        · have hf := ifT c7 hf
          exact KE17_0  (hx17 _ (Option.some.inj hf).symm).symm H locs hP hS ls (lv_sub hl [] rfl)
    obtain ⟨ex17, hlp17, hf⟩ := bdP hf
    refine LP17 0 ex17 hlp17 H locs hP hS ls (lv_sub hl [1, 2, 0] rfl) ?_ ?_
    · intro  hex17 H locs hP hS ls hl
      subst ex17
      dsimp only [sE_l, sE_r] at hf
      refine lv_iconst hx hb dX16_row_35 ic_m1 ?_
      cases hf
      rw [hQ]; exact p_iret hx hb hr hlk hK hP hS dX16_row_36
    · intro  hex17 H locs hP hS ls hl
      subst ex17
      dsimp only [sE_l, sE_r] at hf
      refine lv_aload_n hx hb dX16_row_43 rfl (lv_at hl 0 rfl) ?_
      refine gM_42 E hK hP dX16_row_44 ?_
      refine lv_aload_n hx hb dX16_row_47 rfl (lv_at hl 0 rfl) ?_
      refine gM_41 (v := (σ.1 541)) E hK hP sgM_row_rzI541 dX16_row_48 ?_
      refine lv_iload_n hx hb dX16_row_51 rfl (lv_at hl 1 rfl) ?_
      obtain ⟨a9, ha9, hf⟩ := bdP hf
      refine p_iast hx hb hK hP hS (hA _ (PA_c dM_642)) dM_642 sgM_row_raI642 ha9 sgM_row_aI642 dX16_row_52 (fun H locs hP hS => ?_)
      refine lv_aload_n hx hb dX16_row_53 rfl (lv_at hl 0 rfl) ?_
      refine lv_dup hx hb dX16_row_54 rfl ?_
      refine gM_41 (v := (σ.1 541)) E hK hP sgM_row_rzI541 dX16_row_55 ?_
      refine lv_iconst hx hb dX16_row_58 ic_1 ?_
      refine lv_iadd hx hb dX16_row_59 ?_
      obtain ⟨v10, hv10, hf⟩ := bdP hf
      refine nm_i (Option.some.inj hv10) ?_
      refine uM_41 E hK hP hS (hA _ (PA_c dM_500)) sgM_row_zI541 dX16_row_60 (fun H locs hP hS => ?_)
      refine lv_aload_n hx hb dX16_row_63 rfl (lv_at hl 0 rfl) ?_
      refine gM_41 (v := v10) E hK hP sgM_row_rzI541 dX16_row_64 ?_
      cases hf
      rw [hQ]; exact p_iret hx hb hr hlk hK hP hS dX16_row_67
  · have hf := ifT c3 hf
    refine lv_iconst hx hb dX16_row_13 ic_m1 ?_
    cases hf
    rw [hQ]; exact p_iret hx hb hr hlk hK hP hS dX16_row_14
theorem kM_row (l : Launch) (D : va_G) (G : Nat → ClassId) (ad : Nat → Nat) (σ : Sto) {x1 : Int32} {r_ : Int32} {w_zI502 : Int32} {w_zI541 : Int32} {w_aI642 : Nat → Int32} (hf : mo_row (σ.1 502) (σ.1 541) (σ.2.2.1 611) (σ.2.2.1 642) x1 = some (r_, w_zI502, w_zI541, w_aI642)) : CtI l D clsA G dscM ad yX16_row (ws_ yX16_row cX16_row 3 (Option.some Jvm.ClassFile.FieldType.int)) rmM_row [.ref (ad 500), .int x1] σ r_ (sgM_row σ w_zI502 w_zI541 w_aI642) :=
  p_ctI (by decide +kernel) (Nat.le_of_ble_eq_true rfl) (fun p e s m below meth c0 ls A E hP hK hA hS hl => wkM_row E hK hA hf rfl hP hS hl)
/-! clear()I -/
def sgM_clear (σ : Sto) (w0 : Int32) (w1 : Int32) : Sto := zI (zI σ 502 w0) 541 w1
theorem sgM_clear_self (σ : Sto) : sgM_clear σ (σ.1 502) (σ.1 541) = σ := by
  unfold sgM_clear
  simp only [zI_self, zL_self, aI_self, aL_self]
theorem sgM_clear_zI502 {σ : Sto} {w0 : Int32} {w1 : Int32} {g : Int32} : zI (sgM_clear σ w0 w1) 502 g = sgM_clear σ g w1 := (zI_comm _ (by decide) _ _).trans (congrArg (fun z => zI z 541 w1) (zI_zI _ 502 _ _))
theorem sgM_clear_zI541 {σ : Sto} {w0 : Int32} {w1 : Int32} {g : Int32} : zI (sgM_clear σ w0 w1) 541 g = sgM_clear σ w0 g := zI_zI _ 541 _ _
theorem sgM_clear_rzI502 {σ : Sto} {w0 : Int32} {w1 : Int32} : (sgM_clear σ w0 w1).1 502 = w0 := rfl
theorem sgM_clear_rzI541 {σ : Sto} {w0 : Int32} {w1 : Int32} : (sgM_clear σ w0 w1).1 541 = w1 := rfl
abbrev rmM_clear : Room := { frames := 0, cells := 0, slots := 0, locals := 0 }
set_option maxHeartbeats 4000000 in
theorem wkM_clear  {r_ : Int32} {w_zI502 : Int32} {w_zI541 : Int32} (E : EN p s m args meth c0 RX16 cX16_clear 2 (Option.some Jvm.ClassFile.FieldType.int)) (hK : KK D clsA G s) (hA : ∀ q, PA dscM ad s.heap.size q → A q) (hf : mo_clear (σ.1 502) (σ.1 541) = some (r_, w_zI502, w_zI541)) (hQ : Q = MQ below (va_Qi (fun x (_ : Unit) => x = r_) (fun _ t => PM D G ad (sgM_clear σ w_zI502 w_zI541) t.heap ∧ KK D clsA G t) A) args s 0 0 A) (hP : PM D G ad σ H) (hS : va_S A s.heap H locs) (hl : lv_has ls 2 [(0, .ref (ad 500))]) : W p l e rmM_clear s m args below meth c0 H locs 0 0 Q (F0 m 0 ls []) := by
  obtain ⟨⟨hx, hb, hml, hown, hts⟩, hr, hlk⟩ := id E
  have hP := hP.to (sgM_clear_self σ).symm
  unfold mo_clear at hf
  refine lv_aload_n hx hb dX16_clear_0 rfl (lv_at hl 0 rfl) ?_
  refine lv_iconst hx hb dX16_clear_1 ic_0 ?_
  refine uM_2 E hK hP hS (hA _ (PA_c dM_500)) sgM_clear_zI502 dX16_clear_2 (fun H locs hP hS => ?_)
  refine lv_aload_n hx hb dX16_clear_5 rfl (lv_at hl 0 rfl) ?_
  refine gM_41 (v := (σ.1 541)) E hK hP sgM_clear_rzI541 dX16_clear_6 ?_
  refine lv_istore_n (lv' := [(1, .int (σ.1 541)), (0, .ref (ad 500))]) hx hb dX16_clear_9 rfl hl (by decide) rfl (fun ls hl => ?_)
  refine lv_aload_n hx hb dX16_clear_10 rfl (lv_at hl 1 rfl) ?_
  refine lv_iconst hx hb dX16_clear_11 ic_0 ?_
  refine uM_41 E hK hP hS (hA _ (PA_c dM_500)) sgM_clear_zI541 dX16_clear_12 (fun H locs hP hS => ?_)
  refine lv_iload_n hx hb dX16_clear_15 rfl (lv_at hl 0 rfl) ?_
  cases hf
  rw [hQ]; exact p_iret hx hb hr hlk hK hP hS dX16_clear_16
theorem kM_clear (l : Launch) (D : va_G) (G : Nat → ClassId) (ad : Nat → Nat) (σ : Sto) {r_ : Int32} {w_zI502 : Int32} {w_zI541 : Int32} (hf : mo_clear (σ.1 502) (σ.1 541) = some (r_, w_zI502, w_zI541)) : CtI l D clsA G dscM ad yX16_clear (ws_ yX16_clear cX16_clear 2 (Option.some Jvm.ClassFile.FieldType.int)) rmM_clear [.ref (ad 500)] σ r_ (sgM_clear σ w_zI502 w_zI541) :=
  p_ctI (by decide +kernel) (Nat.le_of_ble_eq_true rfl) (fun p e s m below meth c0 ls A E hP hK hA hS hl => wkM_clear E hK hA hf rfl hP hS hl)
/-! swap(II)V -/
def sgM_swap (σ : Sto) (w0 : Nat → Int32) : Sto := aI σ 642 w0
theorem sgM_swap_self (σ : Sto) : sgM_swap σ (σ.2.2.1 642) = σ := by
  unfold sgM_swap
  simp only [zI_self, zL_self, aI_self, aL_self]
theorem sgM_swap_aI642 {σ : Sto} {w0 : Nat → Int32} {g : Nat → Int32} : aI (sgM_swap σ w0) 642 g = sgM_swap σ g := aI_aI _ 642 _ _
theorem sgM_swap_raI642 {σ : Sto} {w0 : Nat → Int32} : (sgM_swap σ w0).2.2.1 642 = w0 := rfl
abbrev rmM_swap : Room := { frames := 0, cells := 0, slots := 0, locals := 0 }
set_option maxHeartbeats 4000000 in
theorem wkM_swap {x1 : Int32} {x2 : Int32} {w_aI642 : Nat → Int32} (E : EN p s m args meth c0 RX16 cX16_swap 4 (Option.none : Option Jvm.ClassFile.FieldType)) (hK : KK D clsA G s) (hA : ∀ q, PA dscM ad s.heap.size q → A q) (hf : mo_swap (σ.2.2.1 642) x1 x2 = some w_aI642) (hQ : Q = MQ below (va_Qv (fun (_ : Unit) => True) (fun _ t => PM D G ad (sgM_swap σ w_aI642) t.heap ∧ KK D clsA G t) A) args s 0 0 A) (hP : PM D G ad σ H) (hS : va_S A s.heap H locs) (hl : lv_has ls 4 [(0, .ref (ad 500)), (1, .int x1), (2, .int x2)]) : W p l e rmM_swap s m args below meth c0 H locs 0 0 Q (F0 m 0 ls []) := by
  obtain ⟨⟨hx, hb, hml, hown, hts⟩, hr, hlk⟩ := id E
  have hP := hP.to (sgM_swap_self σ).symm
  unfold mo_swap at hf
  refine lv_aload_n hx hb dX16_swap_0 rfl (lv_at hl 0 rfl) ?_
  refine gM_42 E hK hP dX16_swap_1 ?_
  refine lv_iload_n hx hb dX16_swap_4 rfl (lv_at hl 1 rfl) ?_
  obtain ⟨v1, hv1, hf⟩ := bdP hf
  refine p_iald hx hb hK hP dM_642 sgM_swap_raI642 hv1 dX16_swap_5 ?_
  refine lv_istore_n (lv' := [(3, .int v1), (0, .ref (ad 500)), (1, .int x1), (2, .int x2)]) hx hb dX16_swap_6 rfl hl (by decide) rfl (fun ls hl => ?_)
  refine lv_aload_n hx hb dX16_swap_7 rfl (lv_at hl 1 rfl) ?_
  refine gM_42 E hK hP dX16_swap_8 ?_
  refine lv_iload_n hx hb dX16_swap_11 rfl (lv_at hl 2 rfl) ?_
  refine lv_aload_n hx hb dX16_swap_12 rfl (lv_at hl 1 rfl) ?_
  refine gM_42 E hK hP dX16_swap_13 ?_
  refine lv_iload_n hx hb dX16_swap_16 rfl (lv_at hl 3 rfl) ?_
  obtain ⟨v2, hv2, hf⟩ := bdP hf
  refine p_iald hx hb hK hP dM_642 sgM_swap_raI642 hv2 dX16_swap_17 ?_
  obtain ⟨a3, ha3, hf⟩ := bdP hf
  refine p_iast hx hb hK hP hS (hA _ (PA_c dM_642)) dM_642 sgM_swap_raI642 ha3 sgM_swap_aI642 dX16_swap_18 (fun H locs hP hS => ?_)
  refine lv_aload_n hx hb dX16_swap_19 rfl (lv_at hl 1 rfl) ?_
  refine gM_42 E hK hP dX16_swap_20 ?_
  refine lv_iload_n hx hb dX16_swap_23 rfl (lv_at hl 3 rfl) ?_
  refine lv_iload_n hx hb dX16_swap_24 rfl (lv_at hl 0 rfl) ?_
  obtain ⟨a4, ha4, hf⟩ := bdP hf
  refine p_iast hx hb hK hP hS (hA _ (PA_c dM_642)) dM_642 sgM_swap_raI642 ha4 sgM_swap_aI642 dX16_swap_25 (fun H locs hP hS => ?_)
  cases hf
  rw [hQ]; exact p_vret hx hb hr hlk hK hP hS dX16_swap_26
theorem kM_swap (l : Launch) (D : va_G) (G : Nat → ClassId) (ad : Nat → Nat) (σ : Sto) {x1 : Int32} {x2 : Int32} {w_aI642 : Nat → Int32} (hf : mo_swap (σ.2.2.1 642) x1 x2 = some w_aI642) : CtV l D clsA G dscM ad yX16_swap (ws_ yX16_swap cX16_swap 4 (Option.none : Option Jvm.ClassFile.FieldType)) rmM_swap [.ref (ad 500), .int x1, .int x2] σ (sgM_swap σ w_aI642) :=
  p_ctV (by decide +kernel) (Nat.le_of_ble_eq_true rfl) (fun p e s m below meth c0 ls A E hP hK hA hS hl => wkM_swap E hK hA hf rfl hP hS hl)
theorem cM_swap (E : EN p s m args meth c0 RX16 cc nL ret) (hK : KK D clsA G s) (hP : PM D G ad σ H) (hS : va_S A s.heap H locs) (hA : ∀ q, PA dscM ad s.heap.size q → A q) {x1 : Int32} {x2 : Int32} {w_aI642 : Nat → Int32} {a_row : Nat → Int32} (e_aI642 : σ.2.2.1 642 = a_row) (hu : mo_swap a_row x1 x2 = some w_aI642) (hR : rmM_swap.frames + 1 ≤ R.frames ∧ 8 + (4 + 11) + rmM_swap.locals ≤ R.locals) (hcs : cells ≤ R.cells ∧ slots ≤ R.slots) (hsz : ls.size = nL) (hW : (rest.map fun v => v.category).sum ≤ 8) (hdg : decode cc pc = .ok (.invokevirtual 439, 3)) (kk : ∀ (H1 : Heap) (locs1 : List Loc), PM D G ad (aI σ 642 w_aI642) H1 → va_S A s.heap H1 locs1 → W p l e R s m args below meth c0 H1 locs1 cells slots Q (F0 m (pc + 3) ls rest)) : W p l e R s m args below meth c0 H locs cells slots Q (F0 m pc ls (.int x2 :: .int x1 :: .ref (ad 500) :: rest)) := by
  subst e_aI642
  exact p_callV (As := [.int x1, .int x2]) (rest := rest) E.1 hK hP hS hA (kM_swap l D G ad σ hu) (cwV 2 E.1.2.2.2.2 (lw_V q2189 q2191 qs115 q142 q2192) rfl rfl rfl (by decide +kernel) hR) dM_500 rfl rfl rfl hsz rfl hW hdg hcs kk
/-! nextRow()Z -/
def sgM_nextRow (σ : Sto) (w0 : Nat → Int32) : Sto := aI σ 642 w0
theorem sgM_nextRow_self (σ : Sto) : sgM_nextRow σ (σ.2.2.1 642) = σ := by
  unfold sgM_nextRow
  simp only [zI_self, zL_self, aI_self, aL_self]
theorem sgM_nextRow_aI642 {σ : Sto} {w0 : Nat → Int32} {g : Nat → Int32} : aI (sgM_nextRow σ w0) 642 g = sgM_nextRow σ g := aI_aI _ 642 _ _
theorem sgM_nextRow_rzI541 {σ : Sto} {w0 : Nat → Int32} : (sgM_nextRow σ w0).1 541 = σ.1 541 := rfl
theorem sgM_nextRow_raI642 {σ : Sto} {w0 : Nat → Int32} : (sgM_nextRow σ w0).2.2.1 642 = w0 := rfl
abbrev rmM_nextRow : Room := { frames := 1, cells := 0, slots := 0, locals := 23 }
set_option maxHeartbeats 4000000 in
theorem wkM_nextRow  {r_ : Int32} {w_aI642 : Nat → Int32} (E : EN p s m args meth c0 RX16 cX16_nextRow 5 (Option.some Jvm.ClassFile.FieldType.boolean)) (hK : KK D clsA G s) (hA : ∀ q, PA dscM ad s.heap.size q → A q) (hf : mo_nextRow (σ.1 541) (σ.2.2.1 642) = some (r_, w_aI642)) (hQ : Q = MQ below (va_Qi (fun x (_ : Unit) => x = r_) (fun _ t => PM D G ad (sgM_nextRow σ w_aI642) t.heap ∧ KK D clsA G t) A) args s 0 0 A) (hP : PM D G ad σ H) (hS : va_S A s.heap H locs) (hl : lv_has ls 5 [(0, .ref (ad 500))]) : W p l e rmM_nextRow s m args below meth c0 H locs 0 0 Q (F0 m 0 ls []) := by
  obtain ⟨⟨hx, hb, hml, hown, hts⟩, hr, hlk⟩ := id E
  have hP := hP.to (sgM_nextRow_self σ).symm
  unfold mo_nextRow at hf
  refine lv_aload_n hx hb dX16_nextRow_0 rfl (lv_at hl 0 rfl) ?_
  refine gM_41 (v := (σ.1 541)) E hK hP sgM_nextRow_rzI541 dX16_nextRow_1 ?_
  refine lv_iconst hx hb dX16_nextRow_4 ic_2 ?_
  refine lv_isub hx hb dX16_nextRow_5 ?_
  obtain ⟨v1, hv1, hf⟩ := bdP hf
  refine nm_i (Option.some.inj hv1) ?_
  refine lv_istore_n (lv' := [(1, .int v1), (0, .ref (ad 500))]) hx hb dX16_nextRow_6 rfl hl (by decide) rfl (fun ls hl => ?_)
  have LP7 : ∀ (st7 : Int32) (ex7 : (Int32)), loop (mo_nextRow_L7 (σ.2.2.1 642)) st7 = some ex7 → ∀ (H : Heap) (locs : List Loc), PM D G ad (sgM_nextRow σ (σ.2.2.1 642)) H → va_S A s.heap H locs → ∀ (ls : Array Slot), lv_has ls 5 [(0, .ref (ad 500)), (1, .int st7)] → (∀ (y8 : Int32), ex7 = y8 → ∀ (H : Heap) (locs : List Loc), PM D G ad (sgM_nextRow σ (σ.2.2.1 642)) H → va_S A s.heap H locs → ∀ (ls : Array Slot), lv_has ls 5 [(0, .ref (ad 500)), (1, .int y8)] → W p l e rmM_nextRow s m args below meth c0 H locs 0 0 Q (F0 m 34 ls [])) → W p l e rmM_nextRow s m args below meth c0 H locs 0 0 Q (F0 m 7 ls []) := by
    refine loop_P (fun st7 ex7 o7 hf ih7 hx7 => ?_)
    obtain ⟨y2, rfl⟩ : ∃ z, z = st7 := ⟨_, rfl⟩
    intro H locs (hP : PM D G ad (sgM_nextRow σ (σ.2.2.1 642)) H) hS ls (hl : lv_has ls 5 [(0, .ref (ad 500)), (1, .int y2)]) KE7_0
    dsimp only [mo_nextRow_L7] at hf
    refine lv_iload_n hx hb dX16_nextRow_7 rfl (lv_at hl 1 rfl) ?_
    refine lv_if_lt (tgt := 34) hx hb dX16_nextRow_8 (by decide) (fun c3 => ?_) (fun c3 => ?_)
    · have hf := ifT c3 hf
      exact KE7_0 _ (hx7 _ (Option.some.inj hf).symm).symm H locs hP hS ls (lv_sub hl [0, 1] rfl)
    · have hf := ifF c3 hf
      refine lv_aload_n hx hb dX16_nextRow_11 rfl (lv_at hl 0 rfl) ?_
      refine gM_42 E hK hP dX16_nextRow_12 ?_
      refine lv_iload_n hx hb dX16_nextRow_15 rfl (lv_at hl 1 rfl) ?_
      obtain ⟨v4, hv4, hf⟩ := bdP hf
      refine p_iald hx hb hK hP dM_642 sgM_nextRow_raI642 hv4 dX16_nextRow_16 ?_
      refine lv_aload_n hx hb dX16_nextRow_17 rfl (lv_at hl 0 rfl) ?_
      refine gM_42 E hK hP dX16_nextRow_18 ?_
      refine lv_iload_n hx hb dX16_nextRow_21 rfl (lv_at hl 1 rfl) ?_
      refine lv_iconst hx hb dX16_nextRow_22 ic_1 ?_
      refine lv_iadd hx hb dX16_nextRow_23 ?_
      obtain ⟨v5, hv5, hf⟩ := bdP hf
      refine p_iald hx hb hK hP dM_642 sgM_nextRow_raI642 hv5 dX16_nextRow_24 ?_
      refine lv_icmp_le (tgt := 34) hx hb dX16_nextRow_25 (by decide) (fun c6 => ?_) (fun c6 => ?_)
      · have hf := ifT c6 hf
        exact KE7_0 _ (hx7 _ (Option.some.inj hf).symm).symm H locs hP hS ls (lv_sub hl [0, 1] rfl)
      · have hf := ifF c6 hf
        obtain ⟨v7, hv7, hf⟩ := bdP hf
        refine lv_iinc (v := v7) (lv' := [(1, .int v7), (0, .ref (ad 500))]) hx hb dX16_nextRow_28 hl (k := 1) rfl (Option.some.inj hv7) (by decide) rfl (fun ls hl => ?_)
        refine lv_goto (tgt := 7) hx hb dX16_nextRow_31 (by decide) ?_
        exact ih7 _ (Option.some.inj hf).symm H locs hP hS ls (lv_sub hl [1, 0] rfl) KE7_0
  obtain ⟨ex7, hlp7, hf⟩ := bdP hf
  refine LP7 v1 ex7 hlp7 H locs hP hS ls (lv_sub hl [1, 0] rfl) ?_
  intro y8 hex7 H locs hP hS ls hl
  subst ex7
  refine lv_iload_n hx hb dX16_nextRow_34 rfl (lv_at hl 1 rfl) ?_
  refine lv_if_ge (tgt := 40) hx hb dX16_nextRow_35 (by decide) (fun c9 => ?_) (fun c9 => ?_)
  · have hf := ifT c9 hf
    refine lv_aload_n hx hb dX16_nextRow_40 rfl (lv_at hl 0 rfl) ?_
    refine gM_41 (v := (σ.1 541)) E hK hP sgM_nextRow_rzI541 dX16_nextRow_41 ?_
    refine lv_iconst hx hb dX16_nextRow_44 ic_1 ?_
    refine lv_isub hx hb dX16_nextRow_45 ?_
    obtain ⟨v10, hv10, hf⟩ := bdP hf
    refine nm_i (Option.some.inj hv10) ?_
    refine lv_istore_n (lv' := [(2, .int v10), (0, .ref (ad 500)), (1, .int y8)]) hx hb dX16_nextRow_46 rfl hl (by decide) rfl (fun ls hl => ?_)
    have LP47 : ∀ (st47 : Int32) (ex47 : (Int32)), loop (mo_nextRow_L47 (σ.2.2.1 642) y8) st47 = some ex47 → ∀ (H : Heap) (locs : List Loc), PM D G ad (sgM_nextRow σ (σ.2.2.1 642)) H → va_S A s.heap H locs → ∀ (ls : Array Slot), lv_has ls 5 [(0, .ref (ad 500)), (1, .int y8), (2, .int st47)] → (∀ (y16 : Int32), ex47 = y16 → ∀ (H : Heap) (locs : List Loc), PM D G ad (sgM_nextRow σ (σ.2.2.1 642)) H → va_S A s.heap H locs → ∀ (ls : Array Slot), lv_has ls 5 [(0, .ref (ad 500)), (1, .int y8), (2, .int y16)] → W p l e rmM_nextRow s m args below meth c0 H locs 0 0 Q (F0 m 68 ls [])) → W p l e rmM_nextRow s m args below meth c0 H locs 0 0 Q (F0 m 47 ls []) := by
      refine loop_P (fun st47 ex47 o47 hf ih47 hx47 => ?_)
      obtain ⟨y11, rfl⟩ : ∃ z, z = st47 := ⟨_, rfl⟩
      intro H locs (hP : PM D G ad (sgM_nextRow σ (σ.2.2.1 642)) H) hS ls (hl : lv_has ls 5 [(0, .ref (ad 500)), (1, .int y8), (2, .int y11)]) KE47_0
      dsimp only [mo_nextRow_L47] at hf
      refine lv_aload_n hx hb dX16_nextRow_47 rfl (lv_at hl 0 rfl) ?_
      refine gM_42 E hK hP dX16_nextRow_48 ?_
      refine lv_iload_n hx hb dX16_nextRow_51 rfl (lv_at hl 2 rfl) ?_
      obtain ⟨v12, hv12, hf⟩ := bdP hf
      refine p_iald hx hb hK hP dM_642 sgM_nextRow_raI642 hv12 dX16_nextRow_52 ?_
      refine lv_aload_n hx hb dX16_nextRow_53 rfl (lv_at hl 0 rfl) ?_
      refine gM_42 E hK hP dX16_nextRow_54 ?_
      refine lv_iload_n hx hb dX16_nextRow_57 rfl (lv_at hl 1 rfl) ?_
      obtain ⟨v13, hv13, hf⟩ := bdP hf
      refine p_iald hx hb hK hP dM_642 sgM_nextRow_raI642 hv13 dX16_nextRow_58 ?_
      refine lv_icmp_ge (tgt := 68) hx hb dX16_nextRow_59 (by decide) (fun c14 => ?_) (fun c14 => ?_)
      · have hf := ifT c14 hf
        exact KE47_0 _ (hx47 _ (Option.some.inj hf).symm).symm H locs hP hS ls (lv_sub hl [0, 1, 2] rfl)
      · have hf := ifF c14 hf
        obtain ⟨v15, hv15, hf⟩ := bdP hf
        refine lv_iinc (v := v15) (lv' := [(2, .int v15), (0, .ref (ad 500)), (1, .int y8)]) hx hb dX16_nextRow_62 hl (k := 2) rfl (Option.some.inj hv15) (by decide) rfl (fun ls hl => ?_)
        refine lv_goto (tgt := 47) hx hb dX16_nextRow_65 (by decide) ?_
        exact ih47 _ (Option.some.inj hf).symm H locs hP hS ls (lv_sub hl [1, 2, 0] rfl) KE47_0
    obtain ⟨ex47, hlp47, hf⟩ := bdP hf
    refine LP47 v10 ex47 hlp47 H locs hP hS ls (lv_sub hl [1, 2, 0] rfl) ?_
    intro y16 hex47 H locs hP hS ls hl
    subst ex47
    refine lv_aload_n hx hb dX16_nextRow_68 rfl (lv_at hl 0 rfl) ?_
    refine lv_iload_n hx hb dX16_nextRow_69 rfl (lv_at hl 1 rfl) ?_
    refine lv_iload_n hx hb dX16_nextRow_70 rfl (lv_at hl 2 rfl) ?_
    obtain ⟨a17, u18, hf⟩ := bdP hf
    refine cM_swap E hK hP hS hA sgM_nextRow_raI642 u18 ⟨Nat.le_of_ble_eq_true rfl, Nat.le_of_ble_eq_true rfl⟩ ⟨Nat.zero_le _, Nat.zero_le _⟩ hl.1 (Nat.le_of_ble_eq_true rfl) dX16_nextRow_71 (fun H locs hP hS => ?_)
    rw [sgM_nextRow_aI642] at hP
    refine lv_iload_n hx hb dX16_nextRow_74 rfl (lv_at hl 1 rfl) ?_
    refine lv_iconst hx hb dX16_nextRow_75 ic_1 ?_
    refine lv_iadd hx hb dX16_nextRow_76 ?_
    obtain ⟨v19, hv19, hf⟩ := bdP hf
    refine nm_i (Option.some.inj hv19) ?_
    refine lv_istore_n (lv' := [(3, .int v19), (0, .ref (ad 500)), (1, .int y8), (2, .int y16)]) hx hb dX16_nextRow_77 rfl hl (by decide) rfl (fun ls hl => ?_)
    refine lv_aload_n hx hb dX16_nextRow_78 rfl (lv_at hl 1 rfl) ?_
    refine gM_41 (v := (σ.1 541)) E hK hP sgM_nextRow_rzI541 dX16_nextRow_79 ?_
    refine lv_iconst hx hb dX16_nextRow_82 ic_1 ?_
    refine lv_isub hx hb dX16_nextRow_83 ?_
    obtain ⟨v20, hv20, hf⟩ := bdP hf
    refine nm_i (Option.some.inj hv20) ?_
    refine lv_istore (lv' := [(4, .int v20), (3, .int v19), (0, .ref (ad 500)), (1, .int y8), (2, .int y16)]) hx hb dX16_nextRow_84 hl (by decide) rfl (fun ls hl => ?_)
    have LP86 : ∀ (st86 : Int32 × Int32 × (Nat → Int32)) (ex86 : ((Nat → Int32))), loop (mo_nextRow_L86) st86 = some ex86 → ∀ (H : Heap) (locs : List Loc), PM D G ad (sgM_nextRow σ (st86.2.2)) H → va_S A s.heap H locs → ∀ (ls : Array Slot), lv_has ls 5 [(0, .ref (ad 500)), (3, .int (st86.1)), (4, .int (st86.2.1))] → (∀ (a29 : Nat → Int32), ex86 = a29 → ∀ (H : Heap) (locs : List Loc), PM D G ad (sgM_nextRow σ a29) H → va_S A s.heap H locs → ∀ (ls : Array Slot), lv_has ls 5 [] → W p l e rmM_nextRow s m args below meth c0 H locs 0 0 Q (F0 m 108 ls [])) → W p l e rmM_nextRow s m args below meth c0 H locs 0 0 Q (F0 m 86 ls []) := by
      refine loop_P (fun st86 ex86 o86 hf ih86 hx86 => ?_)
      obtain ⟨y21, y22, a23⟩ := st86
      intro H locs (hP : PM D G ad (sgM_nextRow σ a23) H) hS ls (hl : lv_has ls 5 [(0, .ref (ad 500)), (3, .int y21), (4, .int y22)]) KE86_0
      dsimp only [mo_nextRow_L86] at hf
      refine lv_iload_n hx hb dX16_nextRow_86 rfl (lv_at hl 1 rfl) ?_
      refine lv_iload hx hb dX16_nextRow_87 (lv_at hl 2 rfl) ?_
      refine lv_icmp_ge (tgt := 108) hx hb dX16_nextRow_89 (by decide) (fun c24 => ?_) (fun c24 => ?_)
      · have hf := ifT c24 hf
        exact KE86_0 _ (hx86 _ (Option.some.inj hf).symm).symm H locs hP hS ls (lv_sub hl [] rfl)
      · have hf := ifF c24 hf
        refine lv_aload_n hx hb dX16_nextRow_92 rfl (lv_at hl 0 rfl) ?_
        refine lv_iload_n hx hb dX16_nextRow_93 rfl (lv_at hl 1 rfl) ?_
        refine lv_iload hx hb dX16_nextRow_94 (lv_at hl 2 rfl) ?_
        obtain ⟨a25, u26, hf⟩ := bdP hf
        refine cM_swap E hK hP hS hA sgM_nextRow_raI642 u26 ⟨Nat.le_of_ble_eq_true rfl, Nat.le_of_ble_eq_true rfl⟩ ⟨Nat.zero_le _, Nat.zero_le _⟩ hl.1 (Nat.le_of_ble_eq_true rfl) dX16_nextRow_96 (fun H locs hP hS => ?_)
        rw [sgM_nextRow_aI642] at hP
        obtain ⟨v27, hv27, hf⟩ := bdP hf
        refine lv_iinc (v := v27) (lv' := [(4, .int v27), (0, .ref (ad 500)), (3, .int y21)]) hx hb dX16_nextRow_99 hl (k := 2) rfl (Option.some.inj hv27) (by decide) rfl (fun ls hl => ?_)
        obtain ⟨v28, hv28, hf⟩ := bdP hf
        refine lv_iinc (v := v28) (lv' := [(3, .int v28), (4, .int v27), (0, .ref (ad 500))]) hx hb dX16_nextRow_102 hl (k := 2) rfl (Option.some.inj hv28) (by decide) rfl (fun ls hl => ?_)
        refine lv_goto (tgt := 86) hx hb dX16_nextRow_105 (by decide) ?_
        exact ih86 _ (Option.some.inj hf).symm H locs hP hS ls (lv_sub hl [2, 0, 1] rfl) KE86_0
    obtain ⟨ex86, hlp86, hf⟩ := bdP hf
    refine LP86 (v19, v20, a17) ex86 hlp86 H locs hP hS ls (lv_sub hl [2, 1, 0] rfl) ?_
    intro a29 hex86 H locs hP hS ls hl
    subst ex86
    refine lv_iconst hx hb dX16_nextRow_108 ic_1 ?_
    cases hf
    rw [hQ]; exact p_zret hx hb hr hlk hK hP hS rfl dX16_nextRow_109
  · have hf := ifF c9 hf
    refine lv_iconst hx hb dX16_nextRow_38 ic_0 ?_
    cases hf
    rw [hQ]; exact p_zret hx hb hr hlk hK hP hS rfl dX16_nextRow_39
theorem kM_nextRow (l : Launch) (D : va_G) (G : Nat → ClassId) (ad : Nat → Nat) (σ : Sto) {r_ : Int32} {w_aI642 : Nat → Int32} (hf : mo_nextRow (σ.1 541) (σ.2.2.1 642) = some (r_, w_aI642)) : CtI l D clsA G dscM ad yX16_nextRow (ws_ yX16_nextRow cX16_nextRow 5 (Option.some Jvm.ClassFile.FieldType.boolean)) rmM_nextRow [.ref (ad 500)] σ r_ (sgM_nextRow σ w_aI642) :=
  p_ctI (by decide +kernel) (Nat.le_of_ble_eq_true rfl) (fun p e s m below meth c0 ls A E hP hK hA hS hl => wkM_nextRow E hK hA hf rfl hP hS hl)
theorem cM_nextRow (E : EN p s m args meth c0 RX16 cc nL ret) (hK : KK D clsA G s) (hP : PM D G ad σ H) (hS : va_S A s.heap H locs) (hA : ∀ q, PA dscM ad s.heap.size q → A q) {r_ : Int32} {w_aI642 : Nat → Int32} {z_rowSize : Int32} (e_zI541 : σ.1 541 = z_rowSize) {a_row : Nat → Int32} (e_aI642 : σ.2.2.1 642 = a_row) (hu : mo_nextRow z_rowSize a_row = some (r_, w_aI642)) (hR : rmM_nextRow.frames + 1 ≤ R.frames ∧ 8 + (5 + 11) + rmM_nextRow.locals ≤ R.locals) (hcs : cells ≤ R.cells ∧ slots ≤ R.slots) (hsz : ls.size = nL) (hW : (rest.map fun v => v.category).sum ≤ 8) (hdg : decode cc pc = .ok (.invokevirtual 442, 3)) (kk : ∀ (H1 : Heap) (locs1 : List Loc), PM D G ad (aI σ 642 w_aI642) H1 → va_S A s.heap H1 locs1 → W p l e R s m args below meth c0 H1 locs1 cells slots Q (F0 m (pc + 3) ls (.int r_ :: rest))) : W p l e R s m args below meth c0 H locs cells slots Q (F0 m pc ls (.ref (ad 500) :: rest)) := by
  subst e_zI541
  subst e_aI642
  exact p_callI (As := []) (rest := rest) E.1 hK hP hS hA (kM_nextRow l D G ad σ hu) (cwV 0 E.1.2.2.2.2 (lw_V q2185 q2187 qs114 q142 q2188) rfl rfl rfl (by decide +kernel) hR) dM_500 rfl rfl rfl hsz rfl hW hdg hcs kk
/-! rows(I)J -/
def sgM_rows (σ : Sto) (w0 : Int32) (w1 : Int32) (w2 : Int32) (w3 : Int32) (w4 : Int64) (w5 : Nat → Int32) (w6 : Nat → Int32) (w7 : Nat → Int32) (w8 : Nat → Int32) (w9 : Nat → Int32) : Sto := aI (aI (aI (aI (aI (zL (zI (zI (zI (zI σ 502 w0) 541 w1) 545 w2) 546 w3) 547 w4) 629 w5) 640 w6) 642 w7) 648 w8) 649 w9
theorem sgM_rows_self (σ : Sto) : sgM_rows σ (σ.1 502) (σ.1 541) (σ.1 545) (σ.1 546) (σ.2.1 547) (σ.2.2.1 629) (σ.2.2.1 640) (σ.2.2.1 642) (σ.2.2.1 648) (σ.2.2.1 649) = σ := by
  unfold sgM_rows
  simp only [zI_self, zL_self, aI_self, aL_self]
theorem sgM_rows_zI502 {σ : Sto} {w0 : Int32} {w1 : Int32} {w2 : Int32} {w3 : Int32} {w4 : Int64} {w5 : Nat → Int32} {w6 : Nat → Int32} {w7 : Nat → Int32} {w8 : Nat → Int32} {w9 : Nat → Int32} {g : Int32} : zI (sgM_rows σ w0 w1 w2 w3 w4 w5 w6 w7 w8 w9) 502 g = sgM_rows σ g w1 w2 w3 w4 w5 w6 w7 w8 w9 := (cm_zI_aI _ _ _ _ _).trans (congrArg (fun z => aI z 649 w9) ((cm_zI_aI _ _ _ _ _).trans (congrArg (fun z => aI z 648 w8) ((cm_zI_aI _ _ _ _ _).trans (congrArg (fun z => aI z 642 w7) ((cm_zI_aI _ _ _ _ _).trans (congrArg (fun z => aI z 640 w6) ((cm_zI_aI _ _ _ _ _).trans (congrArg (fun z => aI z 629 w5) ((cm_zI_zL _ _ _ _ _).trans (congrArg (fun z => zL z 547 w4) ((zI_comm _ (by decide) _ _).trans (congrArg (fun z => zI z 546 w3) ((zI_comm _ (by decide) _ _).trans (congrArg (fun z => zI z 545 w2) ((zI_comm _ (by decide) _ _).trans (congrArg (fun z => zI z 541 w1) (zI_zI _ 502 _ _))))))))))))))))))
theorem sgM_rows_zI541 {σ : Sto} {w0 : Int32} {w1 : Int32} {w2 : Int32} {w3 : Int32} {w4 : Int64} {w5 : Nat → Int32} {w6 : Nat → Int32} {w7 : Nat → Int32} {w8 : Nat → Int32} {w9 : Nat → Int32} {g : Int32} : zI (sgM_rows σ w0 w1 w2 w3 w4 w5 w6 w7 w8 w9) 541 g = sgM_rows σ w0 g w2 w3 w4 w5 w6 w7 w8 w9 := (cm_zI_aI _ _ _ _ _).trans (congrArg (fun z => aI z 649 w9) ((cm_zI_aI _ _ _ _ _).trans (congrArg (fun z => aI z 648 w8) ((cm_zI_aI _ _ _ _ _).trans (congrArg (fun z => aI z 642 w7) ((cm_zI_aI _ _ _ _ _).trans (congrArg (fun z => aI z 640 w6) ((cm_zI_aI _ _ _ _ _).trans (congrArg (fun z => aI z 629 w5) ((cm_zI_zL _ _ _ _ _).trans (congrArg (fun z => zL z 547 w4) ((zI_comm _ (by decide) _ _).trans (congrArg (fun z => zI z 546 w3) ((zI_comm _ (by decide) _ _).trans (congrArg (fun z => zI z 545 w2) (zI_zI _ 541 _ _))))))))))))))))
theorem sgM_rows_zI545 {σ : Sto} {w0 : Int32} {w1 : Int32} {w2 : Int32} {w3 : Int32} {w4 : Int64} {w5 : Nat → Int32} {w6 : Nat → Int32} {w7 : Nat → Int32} {w8 : Nat → Int32} {w9 : Nat → Int32} {g : Int32} : zI (sgM_rows σ w0 w1 w2 w3 w4 w5 w6 w7 w8 w9) 545 g = sgM_rows σ w0 w1 g w3 w4 w5 w6 w7 w8 w9 := (cm_zI_aI _ _ _ _ _).trans (congrArg (fun z => aI z 649 w9) ((cm_zI_aI _ _ _ _ _).trans (congrArg (fun z => aI z 648 w8) ((cm_zI_aI _ _ _ _ _).trans (congrArg (fun z => aI z 642 w7) ((cm_zI_aI _ _ _ _ _).trans (congrArg (fun z => aI z 640 w6) ((cm_zI_aI _ _ _ _ _).trans (congrArg (fun z => aI z 629 w5) ((cm_zI_zL _ _ _ _ _).trans (congrArg (fun z => zL z 547 w4) ((zI_comm _ (by decide) _ _).trans (congrArg (fun z => zI z 546 w3) (zI_zI _ 545 _ _))))))))))))))
theorem sgM_rows_zI546 {σ : Sto} {w0 : Int32} {w1 : Int32} {w2 : Int32} {w3 : Int32} {w4 : Int64} {w5 : Nat → Int32} {w6 : Nat → Int32} {w7 : Nat → Int32} {w8 : Nat → Int32} {w9 : Nat → Int32} {g : Int32} : zI (sgM_rows σ w0 w1 w2 w3 w4 w5 w6 w7 w8 w9) 546 g = sgM_rows σ w0 w1 w2 g w4 w5 w6 w7 w8 w9 := (cm_zI_aI _ _ _ _ _).trans (congrArg (fun z => aI z 649 w9) ((cm_zI_aI _ _ _ _ _).trans (congrArg (fun z => aI z 648 w8) ((cm_zI_aI _ _ _ _ _).trans (congrArg (fun z => aI z 642 w7) ((cm_zI_aI _ _ _ _ _).trans (congrArg (fun z => aI z 640 w6) ((cm_zI_aI _ _ _ _ _).trans (congrArg (fun z => aI z 629 w5) ((cm_zI_zL _ _ _ _ _).trans (congrArg (fun z => zL z 547 w4) (zI_zI _ 546 _ _))))))))))))
theorem sgM_rows_zL547 {σ : Sto} {w0 : Int32} {w1 : Int32} {w2 : Int32} {w3 : Int32} {w4 : Int64} {w5 : Nat → Int32} {w6 : Nat → Int32} {w7 : Nat → Int32} {w8 : Nat → Int32} {w9 : Nat → Int32} {g : Int64} : zL (sgM_rows σ w0 w1 w2 w3 w4 w5 w6 w7 w8 w9) 547 g = sgM_rows σ w0 w1 w2 w3 g w5 w6 w7 w8 w9 := (cm_zL_aI _ _ _ _ _).trans (congrArg (fun z => aI z 649 w9) ((cm_zL_aI _ _ _ _ _).trans (congrArg (fun z => aI z 648 w8) ((cm_zL_aI _ _ _ _ _).trans (congrArg (fun z => aI z 642 w7) ((cm_zL_aI _ _ _ _ _).trans (congrArg (fun z => aI z 640 w6) ((cm_zL_aI _ _ _ _ _).trans (congrArg (fun z => aI z 629 w5) (zL_zL _ 547 _ _))))))))))
theorem sgM_rows_aI629 {σ : Sto} {w0 : Int32} {w1 : Int32} {w2 : Int32} {w3 : Int32} {w4 : Int64} {w5 : Nat → Int32} {w6 : Nat → Int32} {w7 : Nat → Int32} {w8 : Nat → Int32} {w9 : Nat → Int32} {g : Nat → Int32} : aI (sgM_rows σ w0 w1 w2 w3 w4 w5 w6 w7 w8 w9) 629 g = sgM_rows σ w0 w1 w2 w3 w4 g w6 w7 w8 w9 := (aI_comm _ (by decide) _ _).trans (congrArg (fun z => aI z 649 w9) ((aI_comm _ (by decide) _ _).trans (congrArg (fun z => aI z 648 w8) ((aI_comm _ (by decide) _ _).trans (congrArg (fun z => aI z 642 w7) ((aI_comm _ (by decide) _ _).trans (congrArg (fun z => aI z 640 w6) (aI_aI _ 629 _ _))))))))
theorem sgM_rows_aI640 {σ : Sto} {w0 : Int32} {w1 : Int32} {w2 : Int32} {w3 : Int32} {w4 : Int64} {w5 : Nat → Int32} {w6 : Nat → Int32} {w7 : Nat → Int32} {w8 : Nat → Int32} {w9 : Nat → Int32} {g : Nat → Int32} : aI (sgM_rows σ w0 w1 w2 w3 w4 w5 w6 w7 w8 w9) 640 g = sgM_rows σ w0 w1 w2 w3 w4 w5 g w7 w8 w9 := (aI_comm _ (by decide) _ _).trans (congrArg (fun z => aI z 649 w9) ((aI_comm _ (by decide) _ _).trans (congrArg (fun z => aI z 648 w8) ((aI_comm _ (by decide) _ _).trans (congrArg (fun z => aI z 642 w7) (aI_aI _ 640 _ _))))))
theorem sgM_rows_aI642 {σ : Sto} {w0 : Int32} {w1 : Int32} {w2 : Int32} {w3 : Int32} {w4 : Int64} {w5 : Nat → Int32} {w6 : Nat → Int32} {w7 : Nat → Int32} {w8 : Nat → Int32} {w9 : Nat → Int32} {g : Nat → Int32} : aI (sgM_rows σ w0 w1 w2 w3 w4 w5 w6 w7 w8 w9) 642 g = sgM_rows σ w0 w1 w2 w3 w4 w5 w6 g w8 w9 := (aI_comm _ (by decide) _ _).trans (congrArg (fun z => aI z 649 w9) ((aI_comm _ (by decide) _ _).trans (congrArg (fun z => aI z 648 w8) (aI_aI _ 642 _ _))))
theorem sgM_rows_aI648 {σ : Sto} {w0 : Int32} {w1 : Int32} {w2 : Int32} {w3 : Int32} {w4 : Int64} {w5 : Nat → Int32} {w6 : Nat → Int32} {w7 : Nat → Int32} {w8 : Nat → Int32} {w9 : Nat → Int32} {g : Nat → Int32} : aI (sgM_rows σ w0 w1 w2 w3 w4 w5 w6 w7 w8 w9) 648 g = sgM_rows σ w0 w1 w2 w3 w4 w5 w6 w7 g w9 := (aI_comm _ (by decide) _ _).trans (congrArg (fun z => aI z 649 w9) (aI_aI _ 648 _ _))
theorem sgM_rows_aI649 {σ : Sto} {w0 : Int32} {w1 : Int32} {w2 : Int32} {w3 : Int32} {w4 : Int64} {w5 : Nat → Int32} {w6 : Nat → Int32} {w7 : Nat → Int32} {w8 : Nat → Int32} {w9 : Nat → Int32} {g : Nat → Int32} : aI (sgM_rows σ w0 w1 w2 w3 w4 w5 w6 w7 w8 w9) 649 g = sgM_rows σ w0 w1 w2 w3 w4 w5 w6 w7 w8 g := aI_aI _ 649 _ _
theorem sgM_rows_rzI502 {σ : Sto} {w0 : Int32} {w1 : Int32} {w2 : Int32} {w3 : Int32} {w4 : Int64} {w5 : Nat → Int32} {w6 : Nat → Int32} {w7 : Nat → Int32} {w8 : Nat → Int32} {w9 : Nat → Int32} : (sgM_rows σ w0 w1 w2 w3 w4 w5 w6 w7 w8 w9).1 502 = w0 := rfl
theorem sgM_rows_rzI522 {σ : Sto} {w0 : Int32} {w1 : Int32} {w2 : Int32} {w3 : Int32} {w4 : Int64} {w5 : Nat → Int32} {w6 : Nat → Int32} {w7 : Nat → Int32} {w8 : Nat → Int32} {w9 : Nat → Int32} : (sgM_rows σ w0 w1 w2 w3 w4 w5 w6 w7 w8 w9).1 522 = σ.1 522 := rfl
theorem sgM_rows_rzI541 {σ : Sto} {w0 : Int32} {w1 : Int32} {w2 : Int32} {w3 : Int32} {w4 : Int64} {w5 : Nat → Int32} {w6 : Nat → Int32} {w7 : Nat → Int32} {w8 : Nat → Int32} {w9 : Nat → Int32} : (sgM_rows σ w0 w1 w2 w3 w4 w5 w6 w7 w8 w9).1 541 = w1 := rfl
theorem sgM_rows_rzI543 {σ : Sto} {w0 : Int32} {w1 : Int32} {w2 : Int32} {w3 : Int32} {w4 : Int64} {w5 : Nat → Int32} {w6 : Nat → Int32} {w7 : Nat → Int32} {w8 : Nat → Int32} {w9 : Nat → Int32} : (sgM_rows σ w0 w1 w2 w3 w4 w5 w6 w7 w8 w9).1 543 = σ.1 543 := rfl
theorem sgM_rows_rzI545 {σ : Sto} {w0 : Int32} {w1 : Int32} {w2 : Int32} {w3 : Int32} {w4 : Int64} {w5 : Nat → Int32} {w6 : Nat → Int32} {w7 : Nat → Int32} {w8 : Nat → Int32} {w9 : Nat → Int32} : (sgM_rows σ w0 w1 w2 w3 w4 w5 w6 w7 w8 w9).1 545 = w2 := rfl
theorem sgM_rows_rzI546 {σ : Sto} {w0 : Int32} {w1 : Int32} {w2 : Int32} {w3 : Int32} {w4 : Int64} {w5 : Nat → Int32} {w6 : Nat → Int32} {w7 : Nat → Int32} {w8 : Nat → Int32} {w9 : Nat → Int32} : (sgM_rows σ w0 w1 w2 w3 w4 w5 w6 w7 w8 w9).1 546 = w3 := rfl
theorem sgM_rows_rzL547 {σ : Sto} {w0 : Int32} {w1 : Int32} {w2 : Int32} {w3 : Int32} {w4 : Int64} {w5 : Nat → Int32} {w6 : Nat → Int32} {w7 : Nat → Int32} {w8 : Nat → Int32} {w9 : Nat → Int32} : (sgM_rows σ w0 w1 w2 w3 w4 w5 w6 w7 w8 w9).2.1 547 = w4 := rfl
theorem sgM_rows_raI611 {σ : Sto} {w0 : Int32} {w1 : Int32} {w2 : Int32} {w3 : Int32} {w4 : Int64} {w5 : Nat → Int32} {w6 : Nat → Int32} {w7 : Nat → Int32} {w8 : Nat → Int32} {w9 : Nat → Int32} : (sgM_rows σ w0 w1 w2 w3 w4 w5 w6 w7 w8 w9).2.2.1 611 = σ.2.2.1 611 := rfl
theorem sgM_rows_raI615 {σ : Sto} {w0 : Int32} {w1 : Int32} {w2 : Int32} {w3 : Int32} {w4 : Int64} {w5 : Nat → Int32} {w6 : Nat → Int32} {w7 : Nat → Int32} {w8 : Nat → Int32} {w9 : Nat → Int32} : (sgM_rows σ w0 w1 w2 w3 w4 w5 w6 w7 w8 w9).2.2.1 615 = σ.2.2.1 615 := rfl
theorem sgM_rows_raI618 {σ : Sto} {w0 : Int32} {w1 : Int32} {w2 : Int32} {w3 : Int32} {w4 : Int64} {w5 : Nat → Int32} {w6 : Nat → Int32} {w7 : Nat → Int32} {w8 : Nat → Int32} {w9 : Nat → Int32} : (sgM_rows σ w0 w1 w2 w3 w4 w5 w6 w7 w8 w9).2.2.1 618 = σ.2.2.1 618 := rfl
theorem sgM_rows_raI620 {σ : Sto} {w0 : Int32} {w1 : Int32} {w2 : Int32} {w3 : Int32} {w4 : Int64} {w5 : Nat → Int32} {w6 : Nat → Int32} {w7 : Nat → Int32} {w8 : Nat → Int32} {w9 : Nat → Int32} : (sgM_rows σ w0 w1 w2 w3 w4 w5 w6 w7 w8 w9).2.2.1 620 = σ.2.2.1 620 := rfl
theorem sgM_rows_raI621 {σ : Sto} {w0 : Int32} {w1 : Int32} {w2 : Int32} {w3 : Int32} {w4 : Int64} {w5 : Nat → Int32} {w6 : Nat → Int32} {w7 : Nat → Int32} {w8 : Nat → Int32} {w9 : Nat → Int32} : (sgM_rows σ w0 w1 w2 w3 w4 w5 w6 w7 w8 w9).2.2.1 621 = σ.2.2.1 621 := rfl
theorem sgM_rows_raI624 {σ : Sto} {w0 : Int32} {w1 : Int32} {w2 : Int32} {w3 : Int32} {w4 : Int64} {w5 : Nat → Int32} {w6 : Nat → Int32} {w7 : Nat → Int32} {w8 : Nat → Int32} {w9 : Nat → Int32} : (sgM_rows σ w0 w1 w2 w3 w4 w5 w6 w7 w8 w9).2.2.1 624 = σ.2.2.1 624 := rfl
theorem sgM_rows_raI629 {σ : Sto} {w0 : Int32} {w1 : Int32} {w2 : Int32} {w3 : Int32} {w4 : Int64} {w5 : Nat → Int32} {w6 : Nat → Int32} {w7 : Nat → Int32} {w8 : Nat → Int32} {w9 : Nat → Int32} : (sgM_rows σ w0 w1 w2 w3 w4 w5 w6 w7 w8 w9).2.2.1 629 = w5 := rfl
theorem sgM_rows_raI631 {σ : Sto} {w0 : Int32} {w1 : Int32} {w2 : Int32} {w3 : Int32} {w4 : Int64} {w5 : Nat → Int32} {w6 : Nat → Int32} {w7 : Nat → Int32} {w8 : Nat → Int32} {w9 : Nat → Int32} : (sgM_rows σ w0 w1 w2 w3 w4 w5 w6 w7 w8 w9).2.2.1 631 = σ.2.2.1 631 := rfl
theorem sgM_rows_raI640 {σ : Sto} {w0 : Int32} {w1 : Int32} {w2 : Int32} {w3 : Int32} {w4 : Int64} {w5 : Nat → Int32} {w6 : Nat → Int32} {w7 : Nat → Int32} {w8 : Nat → Int32} {w9 : Nat → Int32} : (sgM_rows σ w0 w1 w2 w3 w4 w5 w6 w7 w8 w9).2.2.1 640 = w6 := rfl
theorem sgM_rows_raI642 {σ : Sto} {w0 : Int32} {w1 : Int32} {w2 : Int32} {w3 : Int32} {w4 : Int64} {w5 : Nat → Int32} {w6 : Nat → Int32} {w7 : Nat → Int32} {w8 : Nat → Int32} {w9 : Nat → Int32} : (sgM_rows σ w0 w1 w2 w3 w4 w5 w6 w7 w8 w9).2.2.1 642 = w7 := rfl
theorem sgM_rows_raI644 {σ : Sto} {w0 : Int32} {w1 : Int32} {w2 : Int32} {w3 : Int32} {w4 : Int64} {w5 : Nat → Int32} {w6 : Nat → Int32} {w7 : Nat → Int32} {w8 : Nat → Int32} {w9 : Nat → Int32} : (sgM_rows σ w0 w1 w2 w3 w4 w5 w6 w7 w8 w9).2.2.1 644 = σ.2.2.1 644 := rfl
theorem sgM_rows_raI648 {σ : Sto} {w0 : Int32} {w1 : Int32} {w2 : Int32} {w3 : Int32} {w4 : Int64} {w5 : Nat → Int32} {w6 : Nat → Int32} {w7 : Nat → Int32} {w8 : Nat → Int32} {w9 : Nat → Int32} : (sgM_rows σ w0 w1 w2 w3 w4 w5 w6 w7 w8 w9).2.2.1 648 = w8 := rfl
theorem sgM_rows_raI649 {σ : Sto} {w0 : Int32} {w1 : Int32} {w2 : Int32} {w3 : Int32} {w4 : Int64} {w5 : Nat → Int32} {w6 : Nat → Int32} {w7 : Nat → Int32} {w8 : Nat → Int32} {w9 : Nat → Int32} : (sgM_rows σ w0 w1 w2 w3 w4 w5 w6 w7 w8 w9).2.2.1 649 = w9 := rfl
theorem sgM_rows_raL626 {σ : Sto} {w0 : Int32} {w1 : Int32} {w2 : Int32} {w3 : Int32} {w4 : Int64} {w5 : Nat → Int32} {w6 : Nat → Int32} {w7 : Nat → Int32} {w8 : Nat → Int32} {w9 : Nat → Int32} : (sgM_rows σ w0 w1 w2 w3 w4 w5 w6 w7 w8 w9).2.2.2.1 626 = σ.2.2.2.1 626 := rfl
abbrev rmM_rows : Room := { frames := 9, cells := 0, slots := 0, locals := 221 }
set_option maxHeartbeats 4000000 in
theorem wkM_rows {x1 : Int32} {r_ : Int64} {w_zI502 : Int32} {w_zI541 : Int32} {w_zI545 : Int32} {w_zI546 : Int32} {w_zL547 : Int64} {w_aI629 : Nat → Int32} {w_aI640 : Nat → Int32} {w_aI642 : Nat → Int32} {w_aI648 : Nat → Int32} {w_aI649 : Nat → Int32} (E : EN p s m args meth c0 RX16 cX16_rows 10 (Option.some Jvm.ClassFile.FieldType.long)) (hK : KK D clsA G s) (hA : ∀ q, PA dscM ad s.heap.size q → A q) (hf : mo_rows (σ.1 502) (σ.1 522) (σ.1 541) (σ.1 543) (σ.1 545) (σ.1 546) (σ.2.1 547) (σ.2.2.1 611) (σ.2.2.1 615) (σ.2.2.1 618) (σ.2.2.1 620) (σ.2.2.1 621) (σ.2.2.1 624) (σ.2.2.1 629) (σ.2.2.1 631) (σ.2.2.1 640) (σ.2.2.1 642) (σ.2.2.1 644) (σ.2.2.1 648) (σ.2.2.1 649) (σ.2.2.2.1 626) x1 = some (r_, w_zI502, w_zI541, w_zI545, w_zI546, w_zL547, w_aI629, w_aI640, w_aI642, w_aI648, w_aI649)) (hQ : Q = MQ below (va_Ql (fun x (_ : Unit) => x = r_) (fun _ t => PM D G ad (sgM_rows σ w_zI502 w_zI541 w_zI545 w_zI546 w_zL547 w_aI629 w_aI640 w_aI642 w_aI648 w_aI649) t.heap ∧ KK D clsA G t) A) args s 0 0 A) (hP : PM D G ad σ H) (hS : va_S A s.heap H locs) (hl : lv_has ls 10 [(0, .ref (ad 500)), (1, .int x1)]) : W p l e rmM_rows s m args below meth c0 H locs 0 0 Q (F0 m 0 ls []) := by
  obtain ⟨⟨hx, hb, hml, hown, hts⟩, hr, hlk⟩ := id E
  have hP := hP.to (sgM_rows_self σ).symm
  unfold mo_rows at hf
  refine lv_aload_n hx hb dX16_rows_0 rfl (lv_at hl 0 rfl) ?_
  refine lv_iconst hx hb dX16_rows_1 ic_0 ?_
  refine uM_2 E hK hP hS (hA _ (PA_c dM_500)) sgM_rows_zI502 dX16_rows_2 (fun H locs hP hS => ?_)
  refine lv_iload_n hx hb dX16_rows_5 rfl (lv_at hl 1 rfl) ?_
  refine lv_iconst hx hb dX16_rows_6 ic_0 ?_
  refine lv_bipush hx hb dX16_rows_7 bp_6 ?_
  obtain ⟨v1, u2, hf⟩ := bdP hf
  refine cM_isIn E hK hP hS hA u2 ⟨Nat.le_of_ble_eq_true rfl, Nat.le_of_ble_eq_true rfl⟩ ⟨Nat.zero_le _, Nat.zero_le _⟩ hl.1 (Nat.le_of_ble_eq_true rfl) dX16_rows_9 (fun H locs hP hS => ?_)
  have J22 : mo_rows_J22 (σ.1 541) (σ.1 545) (σ.1 546) (σ.2.1 547) (σ.2.2.1 629) (σ.2.2.1 640) (σ.2.2.1 642) (σ.2.2.1 648) (σ.2.2.1 649) = some (r_, w_zI502, w_zI541, w_zI545, w_zI546, w_zL547, w_aI629, w_aI640, w_aI642, w_aI648, w_aI649) → ∀ (H : Heap) (locs : List Loc), PM D G ad (sgM_rows σ 0 (σ.1 541) (σ.1 545) (σ.1 546) (σ.2.1 547) (σ.2.2.1 629) (σ.2.2.1 640) (σ.2.2.1 642) (σ.2.2.1 648) (σ.2.2.1 649)) H → va_S A s.heap H locs → ∀ (ls : Array Slot), lv_has ls 10 [] → W p l e rmM_rows s m args below meth c0 H locs 0 0 Q (F0 m 22 ls []) := by
    intro  hf H locs hP hS ls hl
    unfold mo_rows_J22 at hf
    refine lv_ldc2 hx hb hown (hts _ q1970) dX16_rows_22 ?_
    cases hf
    rw [hQ]; exact p_lret hx hb hr hlk hK hP hS dX16_rows_25
  refine lv_if_eq (tgt := 22) hx hb dX16_rows_12 (by decide) (fun c3 => ?_) (fun c3 => ?_)
  · have hf := ifT c3 hf
    exact J22  hf H locs hP hS ls (lv_sub hl [] rfl)
  · have hf := ifF c3 hf
    refine lv_aload_n hx hb dX16_rows_15 rfl (lv_at hl 0 rfl) ?_
    obtain ⟨v4, u5, hf⟩ := bdP hf
    refine cM_hasEnds E hK hP hS hA sgM_rows_raI611 u5 ⟨Nat.le_of_ble_eq_true rfl, Nat.le_of_ble_eq_true rfl⟩ ⟨Nat.zero_le _, Nat.zero_le _⟩ hl.1 (Nat.le_of_ble_eq_true rfl) dX16_rows_16 (fun H locs hP hS => ?_)
    refine lv_if_ne (tgt := 26) hx hb dX16_rows_19 (by decide) (fun c6 => ?_) (fun c6 => ?_)
    · have hf := ifF c6 hf
      refine lv_aload_n hx hb dX16_rows_26 rfl (lv_at hl 0 rfl) ?_
      refine gM_41 (v := (σ.1 541)) E hK hP sgM_rows_rzI541 dX16_rows_27 ?_
      refine lv_istore_n (lv' := [(2, .int (σ.1 541)), (0, .ref (ad 500)), (1, .int x1)]) hx hb dX16_rows_30 rfl hl (by decide) rfl (fun ls hl => ?_)
      refine lv_iconst hx hb dX16_rows_31 ic_0 ?_
      refine lv_istore_n (lv' := [(3, .int 0), (2, .int (σ.1 541)), (0, .ref (ad 500)), (1, .int x1)]) hx hb dX16_rows_32 rfl hl (by decide) rfl (fun ls hl => ?_)
      have LP33 : ∀ (st33 : Int32 × (Nat → Int32) × (Nat → Int32)) (ex33 : ((Nat → Int32) × (Nat → Int32))), loop (mo_rows_L33) st33 = some ex33 → ∀ (H : Heap) (locs : List Loc), PM D G ad (sgM_rows σ 0 (σ.1 541) (σ.1 545) (σ.1 546) (σ.2.1 547) (σ.2.2.1 629) (σ.2.2.1 640) (st33.2.1) (st33.2.2) (σ.2.2.1 649)) H → va_S A s.heap H locs → ∀ (ls : Array Slot), lv_has ls 10 [(0, .ref (ad 500)), (1, .int x1), (2, .int (σ.1 541)), (3, .int (st33.1))] → (∀ (a15 : Nat → Int32) (a16 : Nat → Int32), ex33 = (a15, a16) → ∀ (H : Heap) (locs : List Loc), PM D G ad (sgM_rows σ 0 (σ.1 541) (σ.1 545) (σ.1 546) (σ.2.1 547) (σ.2.2.1 629) (σ.2.2.1 640) a15 a16 (σ.2.2.1 649)) H → va_S A s.heap H locs → ∀ (ls : Array Slot), lv_has ls 10 [(0, .ref (ad 500)), (1, .int x1), (2, .int (σ.1 541))] → W p l e rmM_rows s m args below meth c0 H locs 0 0 Q (F0 m 64 ls [])) → W p l e rmM_rows s m args below meth c0 H locs 0 0 Q (F0 m 33 ls []) := by
        refine loop_P (fun st33 ex33 o33 hf ih33 hx33 => ?_)
        obtain ⟨y7, a8, a9⟩ := st33
        intro H locs (hP : PM D G ad (sgM_rows σ 0 (σ.1 541) (σ.1 545) (σ.1 546) (σ.2.1 547) (σ.2.2.1 629) (σ.2.2.1 640) a8 a9 (σ.2.2.1 649)) H) hS ls (hl : lv_has ls 10 [(0, .ref (ad 500)), (1, .int x1), (2, .int (σ.1 541)), (3, .int y7)]) KE33_0
        dsimp only [mo_rows_L33] at hf
        refine lv_iload_n hx hb dX16_rows_33 rfl (lv_at hl 3 rfl) ?_
        refine lv_bipush hx hb dX16_rows_34 bp_6 ?_
        refine lv_icmp_ge (tgt := 64) hx hb dX16_rows_36 (by decide) (fun c10 => ?_) (fun c10 => ?_)
        · have hf := ifT c10 hf
          exact KE33_0 _ _ (hx33 _ (Option.some.inj hf).symm).symm H locs hP hS ls (lv_sub hl [0, 1, 2] rfl)
        · have hf := ifF c10 hf
          refine lv_aload_n hx hb dX16_rows_39 rfl (lv_at hl 0 rfl) ?_
          refine gM_48 E hK hP dX16_rows_40 ?_
          refine lv_iload_n hx hb dX16_rows_43 rfl (lv_at hl 3 rfl) ?_
          refine lv_aload_n hx hb dX16_rows_44 rfl (lv_at hl 0 rfl) ?_
          refine gM_42 E hK hP dX16_rows_45 ?_
          refine lv_iload_n hx hb dX16_rows_48 rfl (lv_at hl 3 rfl) ?_
          obtain ⟨v11, hv11, hf⟩ := bdP hf
          refine p_iald hx hb hK hP dM_642 sgM_rows_raI642 hv11 dX16_rows_49 ?_
          obtain ⟨a12, ha12, hf⟩ := bdP hf
          refine p_iast hx hb hK hP hS (hA _ (PA_c dM_648)) dM_648 sgM_rows_raI648 ha12 sgM_rows_aI648 dX16_rows_50 (fun H locs hP hS => ?_)
          refine lv_aload_n hx hb dX16_rows_51 rfl (lv_at hl 0 rfl) ?_
          refine gM_42 E hK hP dX16_rows_52 ?_
          refine lv_iload_n hx hb dX16_rows_55 rfl (lv_at hl 3 rfl) ?_
          refine lv_iload_n hx hb dX16_rows_56 rfl (lv_at hl 3 rfl) ?_
          obtain ⟨a13, ha13, hf⟩ := bdP hf
          refine p_iast hx hb hK hP hS (hA _ (PA_c dM_642)) dM_642 sgM_rows_raI642 ha13 sgM_rows_aI642 dX16_rows_57 (fun H locs hP hS => ?_)
          obtain ⟨v14, hv14, hf⟩ := bdP hf
          refine lv_iinc (v := v14) (lv' := [(3, .int v14), (0, .ref (ad 500)), (1, .int x1), (2, .int (σ.1 541))]) hx hb dX16_rows_58 hl (k := 3) rfl (Option.some.inj hv14) (by decide) rfl (fun ls hl => ?_)
          refine lv_goto (tgt := 33) hx hb dX16_rows_61 (by decide) ?_
          exact ih33 _ (Option.some.inj hf).symm H locs hP hS ls (lv_sub hl [1, 2, 3, 0] rfl) KE33_0
      obtain ⟨ex33, hlp33, hf⟩ := bdP hf
      refine LP33 (0, (σ.2.2.1 642), (σ.2.2.1 648)) ex33 hlp33 H locs hP hS ls (lv_sub hl [2, 3, 1, 0] rfl) ?_
      intro a15 a16 hex33 H locs hP hS ls hl
      subst ex33
      dsimp only at hf
      refine lv_aload_n hx hb dX16_rows_64 rfl (lv_at hl 0 rfl) ?_
      refine lv_aload_n hx hb dX16_rows_65 rfl (lv_at hl 0 rfl) ?_
      obtain ⟨v17, u18, hf⟩ := bdP hf
      refine cM_doubts E hK hP hS hA sgM_rows_raI611 u18 ⟨Nat.le_of_ble_eq_true rfl, Nat.le_of_ble_eq_true rfl⟩ ⟨Nat.zero_le _, Nat.zero_le _⟩ hl.1 (Nat.le_of_ble_eq_true rfl) dX16_rows_66 (fun H locs hP hS => ?_)
      refine uM_41 E hK hP hS (hA _ (PA_c dM_500)) sgM_rows_zI541 dX16_rows_69 (fun H locs hP hS => ?_)
      refine lv_lconst hx hb dX16_rows_72 lc_0 ?_
      refine lv_lstore_n (lv' := [(3, .long 0), (0, .ref (ad 500)), (1, .int x1), (2, .int (σ.1 541))]) hx hb dX16_rows_73 rfl hl (by decide) rfl (fun ls hl => ?_)
      refine lv_iconst hx hb dX16_rows_74 ic_0 ?_
      refine lv_istore (lv' := [(5, .int 0), (3, .long 0), (0, .ref (ad 500)), (1, .int x1), (2, .int (σ.1 541))]) hx hb dX16_rows_75 hl (by decide) rfl (fun ls hl => ?_)
      refine lv_iconst hx hb dX16_rows_77 ic_1 ?_
      refine lv_istore (lv' := [(6, .int 1), (5, .int 0), (3, .long 0), (0, .ref (ad 500)), (1, .int x1), (2, .int (σ.1 541))]) hx hb dX16_rows_78 hl (by decide) rfl (fun ls hl => ?_)
      have LP80 : ∀ (st80 : Int64 × Int32 × Int32 × Int32 × Int32 × Int64 × (Nat → Int32) × (Nat → Int32) × (Nat → Int32) × (Nat → Int32)) (ex80 : (Int64 × Int32 × Int32 × Int64 × (Nat → Int32) × (Nat → Int32) × (Nat → Int32) × (Nat → Int32))), loop (mo_rows_L80 (σ.1 522) (σ.1 543) (σ.2.2.1 611) (σ.2.2.1 615) (σ.2.2.1 618) (σ.2.2.1 620) (σ.2.2.1 621) (σ.2.2.1 624) (σ.2.2.1 631) (σ.2.2.1 644) (σ.2.2.2.1 626) v17) st80 = some ex80 → ∀ (H : Heap) (locs : List Loc), PM D G ad (sgM_rows σ 0 v17 (st80.2.2.2.1) (st80.2.2.2.2.1) (st80.2.2.2.2.2.1) (st80.2.2.2.2.2.2.1) (st80.2.2.2.2.2.2.2.1) (st80.2.2.2.2.2.2.2.2.1) a16 (st80.2.2.2.2.2.2.2.2.2)) H → va_S A s.heap H locs → ∀ (ls : Array Slot), lv_has ls 10 [(0, .ref (ad 500)), (1, .int x1), (2, .int (σ.1 541)), (3, .long (st80.1)), (5, .int (st80.2.1)), (6, .int (st80.2.2.1))] → (∀ (y54 : Int64) (z55 : Int32) (z56 : Int32) (z57 : Int64) (a58 : Nat → Int32) (a59 : Nat → Int32) (a60 : Nat → Int32) (a61 : Nat → Int32), ex80 = (y54, z55, z56, z57, a58, a59, a60, a61) → ∀ (H : Heap) (locs : List Loc), PM D G ad (sgM_rows σ 0 v17 z55 z56 z57 a58 a59 a60 a16 a61) H → va_S A s.heap H locs → ∀ (ls : Array Slot), lv_has ls 10 [(0, .ref (ad 500)), (1, .int x1), (2, .int (σ.1 541)), (3, .long y54)] → W p l e rmM_rows s m args below meth c0 H locs 0 0 Q (F0 m 164 ls [])) → W p l e rmM_rows s m args below meth c0 H locs 0 0 Q (F0 m 80 ls []) := by
        refine loop_P (fun st80 ex80 o80 hf ih80 hx80 => ?_)
        obtain ⟨y19, y20, y21, z22, z23, z24, a25, a26, a27, a28⟩ := st80
        intro H locs (hP : PM D G ad (sgM_rows σ 0 v17 z22 z23 z24 a25 a26 a27 a16 a28) H) hS ls (hl : lv_has ls 10 [(0, .ref (ad 500)), (1, .int x1), (2, .int (σ.1 541)), (3, .long y19), (5, .int y20), (6, .int y21)]) KE80_0
        dsimp only [mo_rows_L80] at hf
        refine lv_iload hx hb dX16_rows_80 (lv_at hl 5 rfl) ?_
        refine lv_if_eq (tgt := 164) hx hb dX16_rows_82 (by decide) (fun c29 => ?_) (fun c29 => ?_)
        · have hf := ifT c29 hf
          exact KE80_0 _ _ _ _ _ _ _ _ (hx80 _ (Option.some.inj hf).symm).symm H locs hP hS ls (lv_sub hl [0, 1, 2, 3] rfl)
        · have hf := ifF c29 hf
          refine lv_aload_n hx hb dX16_rows_85 rfl (lv_at hl 0 rfl) ?_
          refine lv_iconst hx hb dX16_rows_86 ic_5 ?_
          obtain ⟨⟨v30, z31, z32, z33, a34, a35⟩, u36, hf⟩ := bdP hf
          dsimp only at hf
          refine cM_meanOf E hK hP hS hA sgM_rows_rzI522 sgM_rows_rzI541 sgM_rows_rzI543 sgM_rows_rzI545 sgM_rows_rzI546 sgM_rows_rzL547 sgM_rows_raI611 sgM_rows_raI615 sgM_rows_raI618 sgM_rows_raI620 sgM_rows_raI621 sgM_rows_raI624 sgM_rows_raI629 sgM_rows_raI631 sgM_rows_raI640 sgM_rows_raI642 sgM_rows_raI644 sgM_rows_raL626 u36 ⟨Nat.le_of_ble_eq_true rfl, Nat.le_of_ble_eq_true rfl⟩ ⟨Nat.zero_le _, Nat.zero_le _⟩ hl.1 (Nat.le_of_ble_eq_true rfl) dX16_rows_87 (fun H locs hP hS => ?_)
          rw [sgM_rows_zI545, sgM_rows_zI546, sgM_rows_zL547, sgM_rows_aI629, sgM_rows_aI640] at hP
          refine lv_lstore (lv' := [(7, .long v30), (0, .ref (ad 500)), (1, .int x1), (2, .int (σ.1 541)), (3, .long y19), (5, .int y20), (6, .int y21)]) hx hb dX16_rows_90 hl (by decide) rfl (fun ls hl => ?_)
          refine lv_iload hx hb dX16_rows_92 (lv_at hl 5 rfl) ?_
          have J155 : ∀ (y37 : Int64) (y38 : Int32) (a39 : Nat → Int32), mo_rows_J155 v17 a27 z31 z32 z33 a34 a35 y37 y38 a39 = some o80 → ∀ (H : Heap) (locs : List Loc), PM D G ad (sgM_rows σ 0 v17 z31 z32 z33 a34 a35 a27 a16 a39) H → va_S A s.heap H locs → ∀ (ls : Array Slot), lv_has ls 10 [(0, .ref (ad 500)), (1, .int x1), (2, .int (σ.1 541)), (3, .long y37), (5, .int y38)] → W p l e rmM_rows s m args below meth c0 H locs 0 0 Q (F0 m 155 ls []) := by
            intro y37 y38 a39 hf H locs hP hS ls hl
            unfold mo_rows_J155 at hf
            refine lv_aload_n hx hb dX16_rows_155 rfl (lv_at hl 0 rfl) ?_
            obtain ⟨⟨v40, a41⟩, u42, hf⟩ := bdP hf
            dsimp only at hf
            refine cM_nextRow E hK hP hS hA sgM_rows_rzI541 sgM_rows_raI642 u42 ⟨Nat.le_of_ble_eq_true rfl, Nat.le_of_ble_eq_true rfl⟩ ⟨Nat.zero_le _, Nat.zero_le _⟩ hl.1 (Nat.le_of_ble_eq_true rfl) dX16_rows_156 (fun H locs hP hS => ?_)
            rw [sgM_rows_aI642] at hP
            refine lv_istore (lv' := [(6, .int v40), (0, .ref (ad 500)), (1, .int x1), (2, .int (σ.1 541)), (3, .long y37), (5, .int y38)]) hx hb dX16_rows_159 hl (by decide) rfl (fun ls hl => ?_)
            refine lv_goto (tgt := 80) hx hb dX16_rows_161 (by decide) ?_
            exact ih80 _ (Option.some.inj hf).symm H locs hP hS ls (lv_sub hl [1, 2, 3, 4, 5, 0] rfl) KE80_0
          have J117 : mo_rows_J117 v17 a27 a28 v30 z31 z32 z33 a34 a35 = some o80 → ∀ (H : Heap) (locs : List Loc), PM D G ad (sgM_rows σ 0 v17 z31 z32 z33 a34 a35 a27 a16 a28) H → va_S A s.heap H locs → ∀ (ls : Array Slot), lv_has ls 10 [(0, .ref (ad 500)), (1, .int x1), (2, .int (σ.1 541)), (7, .long v30)] → W p l e rmM_rows s m args below meth c0 H locs 0 0 Q (F0 m 117 ls []) := by
            intro  hf H locs hP hS ls hl
            unfold mo_rows_J117 at hf
            refine lv_iconst hx hb dX16_rows_117 ic_1 ?_
            refine lv_istore (lv' := [(5, .int 1), (0, .ref (ad 500)), (1, .int x1), (2, .int (σ.1 541)), (7, .long v30)]) hx hb dX16_rows_118 hl (by decide) rfl (fun ls hl => ?_)
            refine lv_lload hx hb dX16_rows_120 (lv_at hl 4 rfl) ?_
            refine lv_lstore_n (lv' := [(3, .long v30), (5, .int 1), (0, .ref (ad 500)), (1, .int x1), (2, .int (σ.1 541)), (7, .long v30)]) hx hb dX16_rows_122 rfl hl (by decide) rfl (fun ls hl => ?_)
            refine lv_iconst hx hb dX16_rows_123 ic_0 ?_
            refine lv_istore (lv' := [(9, .int 0), (3, .long v30), (5, .int 1), (0, .ref (ad 500)), (1, .int x1), (2, .int (σ.1 541)), (7, .long v30)]) hx hb dX16_rows_124 hl (by decide) rfl (fun ls hl => ?_)
            have LP126 : ∀ (st126 : Int32 × (Nat → Int32)) (ex126 : ((Nat → Int32))), loop (mo_rows_L126 v17 a27) st126 = some ex126 → ∀ (H : Heap) (locs : List Loc), PM D G ad (sgM_rows σ 0 v17 z31 z32 z33 a34 a35 a27 a16 (st126.2)) H → va_S A s.heap H locs → ∀ (ls : Array Slot), lv_has ls 10 [(0, .ref (ad 500)), (1, .int x1), (2, .int (σ.1 541)), (3, .long v30), (5, .int 1), (9, .int (st126.1))] → (∀ (a49 : Nat → Int32), ex126 = a49 → ∀ (H : Heap) (locs : List Loc), PM D G ad (sgM_rows σ 0 v17 z31 z32 z33 a34 a35 a27 a16 a49) H → va_S A s.heap H locs → ∀ (ls : Array Slot), lv_has ls 10 [(0, .ref (ad 500)), (1, .int x1), (2, .int (σ.1 541)), (3, .long v30), (5, .int 1)] → W p l e rmM_rows s m args below meth c0 H locs 0 0 Q (F0 m 155 ls [])) → W p l e rmM_rows s m args below meth c0 H locs 0 0 Q (F0 m 126 ls []) := by
              refine loop_P (fun st126 ex126 o126 hf ih126 hx126 => ?_)
              obtain ⟨y43, a44⟩ := st126
              intro H locs (hP : PM D G ad (sgM_rows σ 0 v17 z31 z32 z33 a34 a35 a27 a16 a44) H) hS ls (hl : lv_has ls 10 [(0, .ref (ad 500)), (1, .int x1), (2, .int (σ.1 541)), (3, .long v30), (5, .int 1), (9, .int y43)]) KE126_0
              dsimp only [mo_rows_L126] at hf
              refine lv_iload hx hb dX16_rows_126 (lv_at hl 5 rfl) ?_
              refine lv_aload_n hx hb dX16_rows_128 rfl (lv_at hl 0 rfl) ?_
              refine gM_41 (v := v17) E hK hP sgM_rows_rzI541 dX16_rows_129 ?_
              refine lv_icmp_ge (tgt := 155) hx hb dX16_rows_132 (by decide) (fun c45 => ?_) (fun c45 => ?_)
              · have hf := ifT c45 hf
                exact KE126_0 _ (hx126 _ (Option.some.inj hf).symm).symm H locs hP hS ls (lv_sub hl [0, 1, 2, 3, 4] rfl)
              · have hf := ifF c45 hf
                refine lv_aload_n hx hb dX16_rows_135 rfl (lv_at hl 0 rfl) ?_
                refine gM_49 E hK hP dX16_rows_136 ?_
                refine lv_iload hx hb dX16_rows_139 (lv_at hl 5 rfl) ?_
                refine lv_aload_n hx hb dX16_rows_141 rfl (lv_at hl 0 rfl) ?_
                refine gM_42 E hK hP dX16_rows_142 ?_
                refine lv_iload hx hb dX16_rows_145 (lv_at hl 5 rfl) ?_
                obtain ⟨v46, hv46, hf⟩ := bdP hf
                refine p_iald hx hb hK hP dM_642 sgM_rows_raI642 hv46 dX16_rows_147 ?_
                obtain ⟨a47, ha47, hf⟩ := bdP hf
                refine p_iast hx hb hK hP hS (hA _ (PA_c dM_649)) dM_649 sgM_rows_raI649 ha47 sgM_rows_aI649 dX16_rows_148 (fun H locs hP hS => ?_)
                obtain ⟨v48, hv48, hf⟩ := bdP hf
                refine lv_iinc (v := v48) (lv' := [(9, .int v48), (0, .ref (ad 500)), (1, .int x1), (2, .int (σ.1 541)), (3, .long v30), (5, .int 1)]) hx hb dX16_rows_149 hl (k := 5) rfl (Option.some.inj hv48) (by decide) rfl (fun ls hl => ?_)
                refine lv_goto (tgt := 126) hx hb dX16_rows_152 (by decide) ?_
                exact ih126 _ (Option.some.inj hf).symm H locs hP hS ls (lv_sub hl [1, 2, 3, 4, 5, 0] rfl) KE126_0
            obtain ⟨ex126, hlp126, hf⟩ := bdP hf
            refine LP126 (0, a28) ex126 hlp126 H locs hP hS ls (lv_sub hl [3, 4, 5, 1, 2, 0] rfl) ?_
            intro a49 hex126 H locs hP hS ls hl
            subst ex126
            exact J155 v30 1 a49 hf H locs hP hS ls (lv_sub hl [0, 1, 2, 3, 4] rfl)
          refine lv_if_eq (tgt := 117) hx hb dX16_rows_94 (by decide) (fun c50 => ?_) (fun c50 => ?_)
          · have hf := ifT c50 hf
            exact J117  hf H locs hP hS ls (lv_sub hl [1, 2, 3, 0] rfl)
          · have hf := ifF c50 hf
            refine lv_lload hx hb dX16_rows_97 (lv_at hl 0 rfl) ?_
            refine lv_lconst hx hb dX16_rows_99 lc_0 ?_
            refine W.lcmp hx hb dX16_rows_100 ?_
            refine lv_if_lt (tgt := 155) hx hb dX16_rows_101 (by decide) (fun c51 => ?_) (fun c51 => ?_)
            · have hf := ifT ((lgc_lt _ _).mp c51) hf
              exact J155 y19 y20 a28 hf H locs hP hS ls (lv_sub hl [1, 2, 3, 4, 5] rfl)
            · have hf := ifF (mt (lgc_lt _ _).mpr c51) hf
              refine lv_lload_n hx hb dX16_rows_104 rfl (lv_at hl 4 rfl) ?_
              refine lv_lconst hx hb dX16_rows_105 lc_0 ?_
              refine W.lcmp hx hb dX16_rows_106 ?_
              refine lv_if_lt (tgt := 117) hx hb dX16_rows_107 (by decide) (fun c52 => ?_) (fun c52 => ?_)
              · have hf := ifT ((lgc_lt _ _).mp c52) hf
                exact J117  hf H locs hP hS ls (lv_sub hl [1, 2, 3, 0] rfl)
              · have hf := ifF (mt (lgc_lt _ _).mpr c52) hf
                refine lv_lload hx hb dX16_rows_110 (lv_at hl 0 rfl) ?_
                refine lv_lload_n hx hb dX16_rows_112 rfl (lv_at hl 4 rfl) ?_
                refine W.lcmp hx hb dX16_rows_113 ?_
                refine lv_if_ge (tgt := 155) hx hb dX16_rows_114 (by decide) (fun c53 => ?_) (fun c53 => ?_)
                · have hf := ifT ((lgc_ge _ _).mp c53) hf
                  exact J155 y19 y20 a28 hf H locs hP hS ls (lv_sub hl [1, 2, 3, 4, 5] rfl)
                · have hf := ifF (mt (lgc_ge _ _).mpr c53) hf
                  exact J117  hf H locs hP hS ls (lv_sub hl [1, 2, 3, 0] rfl)
      obtain ⟨ex80, hlp80, hf⟩ := bdP hf
      refine LP80 (0, 0, 1, (σ.1 545), (σ.1 546), (σ.2.1 547), (σ.2.2.1 629), (σ.2.2.1 640), a15, (σ.2.2.1 649)) ex80 hlp80 H locs hP hS ls (lv_sub hl [3, 4, 5, 2, 1, 0] rfl) ?_
      intro y54 z55 z56 z57 a58 a59 a60 a61 hex80 H locs hP hS ls hl
      subst ex80
      dsimp only at hf
      refine lv_iload_n hx hb dX16_rows_164 rfl (lv_at hl 1 rfl) ?_
      have J195 : ∀ (k62 : Int64), mo_rows_J195 (σ.1 541) a16 z55 z56 z57 a58 a59 a60 a61 k62 = some (r_, w_zI502, w_zI541, w_zI545, w_zI546, w_zL547, w_aI629, w_aI640, w_aI642, w_aI648, w_aI649) → ∀ (H : Heap) (locs : List Loc), PM D G ad (sgM_rows σ 0 v17 z55 z56 z57 a58 a59 a60 a16 a61) H → va_S A s.heap H locs → ∀ (ls : Array Slot), lv_has ls 10 [(0, .ref (ad 500)), (2, .int (σ.1 541))] → W p l e rmM_rows s m args below meth c0 H locs 0 0 Q (F0 m 195 ls [.long k62]) := by
        intro k62 hf H locs hP hS ls hl
        unfold mo_rows_J195 at hf
        refine lv_lstore (lv' := [(7, .long k62), (0, .ref (ad 500)), (2, .int (σ.1 541))]) hx hb dX16_rows_195 hl (by decide) rfl (fun ls hl => ?_)
        refine lv_aload_n hx hb dX16_rows_197 rfl (lv_at hl 1 rfl) ?_
        refine lv_iload_n hx hb dX16_rows_198 rfl (lv_at hl 2 rfl) ?_
        refine uM_41 E hK hP hS (hA _ (PA_c dM_500)) sgM_rows_zI541 dX16_rows_199 (fun H locs hP hS => ?_)
        refine lv_iconst hx hb dX16_rows_202 ic_0 ?_
        refine lv_istore (lv' := [(9, .int 0), (7, .long k62), (0, .ref (ad 500)), (2, .int (σ.1 541))]) hx hb dX16_rows_203 hl (by decide) rfl (fun ls hl => ?_)
        have LP205 : ∀ (st205 : Int32 × (Nat → Int32)) (ex205 : ((Nat → Int32))), loop (mo_rows_L205 a16) st205 = some ex205 → ∀ (H : Heap) (locs : List Loc), PM D G ad (sgM_rows σ 0 (σ.1 541) z55 z56 z57 a58 a59 (st205.2) a16 a61) H → va_S A s.heap H locs → ∀ (ls : Array Slot), lv_has ls 10 [(0, .ref (ad 500)), (7, .long k62), (9, .int (st205.1))] → (∀ (a69 : Nat → Int32), ex205 = a69 → ∀ (H : Heap) (locs : List Loc), PM D G ad (sgM_rows σ 0 (σ.1 541) z55 z56 z57 a58 a59 a69 a16 a61) H → va_S A s.heap H locs → ∀ (ls : Array Slot), lv_has ls 10 [(7, .long k62)] → W p l e rmM_rows s m args below meth c0 H locs 0 0 Q (F0 m 232 ls [])) → W p l e rmM_rows s m args below meth c0 H locs 0 0 Q (F0 m 205 ls []) := by
          refine loop_P (fun st205 ex205 o205 hf ih205 hx205 => ?_)
          obtain ⟨y63, a64⟩ := st205
          intro H locs (hP : PM D G ad (sgM_rows σ 0 (σ.1 541) z55 z56 z57 a58 a59 a64 a16 a61) H) hS ls (hl : lv_has ls 10 [(0, .ref (ad 500)), (7, .long k62), (9, .int y63)]) KE205_0
          dsimp only [mo_rows_L205] at hf
          refine lv_iload hx hb dX16_rows_205 (lv_at hl 2 rfl) ?_
          refine lv_bipush hx hb dX16_rows_207 bp_6 ?_
          refine lv_icmp_ge (tgt := 232) hx hb dX16_rows_209 (by decide) (fun c65 => ?_) (fun c65 => ?_)
          · have hf := ifT c65 hf
            exact KE205_0 _ (hx205 _ (Option.some.inj hf).symm).symm H locs hP hS ls (lv_sub hl [1] rfl)
          · have hf := ifF c65 hf
            refine lv_aload_n hx hb dX16_rows_212 rfl (lv_at hl 0 rfl) ?_
            refine gM_42 E hK hP dX16_rows_213 ?_
            refine lv_iload hx hb dX16_rows_216 (lv_at hl 2 rfl) ?_
            refine lv_aload_n hx hb dX16_rows_218 rfl (lv_at hl 0 rfl) ?_
            refine gM_48 E hK hP dX16_rows_219 ?_
            refine lv_iload hx hb dX16_rows_222 (lv_at hl 2 rfl) ?_
            obtain ⟨v66, hv66, hf⟩ := bdP hf
            refine p_iald hx hb hK hP dM_648 sgM_rows_raI648 hv66 dX16_rows_224 ?_
            obtain ⟨a67, ha67, hf⟩ := bdP hf
            refine p_iast hx hb hK hP hS (hA _ (PA_c dM_642)) dM_642 sgM_rows_raI642 ha67 sgM_rows_aI642 dX16_rows_225 (fun H locs hP hS => ?_)
            obtain ⟨v68, hv68, hf⟩ := bdP hf
            refine lv_iinc (v := v68) (lv' := [(9, .int v68), (0, .ref (ad 500)), (7, .long k62)]) hx hb dX16_rows_226 hl (k := 2) rfl (Option.some.inj hv68) (by decide) rfl (fun ls hl => ?_)
            refine lv_goto (tgt := 205) hx hb dX16_rows_229 (by decide) ?_
            exact ih205 _ (Option.some.inj hf).symm H locs hP hS ls (lv_sub hl [1, 2, 0] rfl) KE205_0
        obtain ⟨ex205, hlp205, hf⟩ := bdP hf
        refine LP205 (0, a60) ex205 hlp205 H locs hP hS ls (lv_sub hl [2, 1, 0] rfl) ?_
        intro a69 hex205 H locs hP hS ls hl
        subst ex205
        refine lv_lload hx hb dX16_rows_232 (lv_at hl 0 rfl) ?_
        cases hf
        rw [hQ]; exact p_lret hx hb hr hlk hK hP hS dX16_rows_234
      refine lv_if_ne (tgt := 172) hx hb dX16_rows_165 (by decide) (fun c70 => ?_) (fun c70 => ?_)
      · have hf := ifF c70 hf
        refine lv_iload_n hx hb dX16_rows_172 rfl (lv_at hl 1 rfl) ?_
        refine lv_aload_n hx hb dX16_rows_173 rfl (lv_at hl 0 rfl) ?_
        refine gM_41 (v := v17) E hK hP sgM_rows_rzI541 dX16_rows_174 ?_
        refine lv_icmp_gt (tgt := 192) hx hb dX16_rows_177 (by decide) (fun c71 => ?_) (fun c71 => ?_)
        · have hf := ifT c71 hf
          refine lv_ldc2 hx hb hown (hts _ q1970) dX16_rows_192 ?_
          exact J195 (-1) hf H locs hP hS ls (lv_sub hl [0, 2] rfl)
        · have hf := ifF c71 hf
          refine lv_aload_n hx hb dX16_rows_180 rfl (lv_at hl 0 rfl) ?_
          refine gM_49 E hK hP dX16_rows_181 ?_
          refine lv_iload_n hx hb dX16_rows_184 rfl (lv_at hl 1 rfl) ?_
          refine lv_iconst hx hb dX16_rows_185 ic_1 ?_
          refine lv_isub hx hb dX16_rows_186 ?_
          obtain ⟨v72, hv72, hf⟩ := bdP hf
          refine p_iald hx hb hK hP dM_649 sgM_rows_raI649 hv72 dX16_rows_187 ?_
          refine lv_i2l hx hb dX16_rows_188 rfl ?_
          refine lv_goto (tgt := 195) hx hb dX16_rows_189 (by decide) ?_
          exact J195 (v72.toInt64) hf H locs hP hS ls (lv_sub hl [0, 2] rfl)
      · have hf := ifT c70 hf
        refine lv_lload_n hx hb dX16_rows_168 rfl (lv_at hl 3 rfl) ?_
        refine lv_goto (tgt := 195) hx hb dX16_rows_169 (by decide) ?_
        exact J195 y54 hf H locs hP hS ls (lv_sub hl [0, 2] rfl)
    · have hf := ifT c6 hf
      exact J22  hf H locs hP hS ls (lv_sub hl [] rfl)
theorem kM_rows (l : Launch) (D : va_G) (G : Nat → ClassId) (ad : Nat → Nat) (σ : Sto) {x1 : Int32} {r_ : Int64} {w_zI502 : Int32} {w_zI541 : Int32} {w_zI545 : Int32} {w_zI546 : Int32} {w_zL547 : Int64} {w_aI629 : Nat → Int32} {w_aI640 : Nat → Int32} {w_aI642 : Nat → Int32} {w_aI648 : Nat → Int32} {w_aI649 : Nat → Int32} (hf : mo_rows (σ.1 502) (σ.1 522) (σ.1 541) (σ.1 543) (σ.1 545) (σ.1 546) (σ.2.1 547) (σ.2.2.1 611) (σ.2.2.1 615) (σ.2.2.1 618) (σ.2.2.1 620) (σ.2.2.1 621) (σ.2.2.1 624) (σ.2.2.1 629) (σ.2.2.1 631) (σ.2.2.1 640) (σ.2.2.1 642) (σ.2.2.1 644) (σ.2.2.1 648) (σ.2.2.1 649) (σ.2.2.2.1 626) x1 = some (r_, w_zI502, w_zI541, w_zI545, w_zI546, w_zL547, w_aI629, w_aI640, w_aI642, w_aI648, w_aI649)) : CtL l D clsA G dscM ad yX16_rows (ws_ yX16_rows cX16_rows 10 (Option.some Jvm.ClassFile.FieldType.long)) rmM_rows [.ref (ad 500), .int x1] σ r_ (sgM_rows σ w_zI502 w_zI541 w_zI545 w_zI546 w_zL547 w_aI629 w_aI640 w_aI642 w_aI648 w_aI649) :=
  p_ctL (by decide +kernel) (Nat.le_of_ble_eq_true rfl) (fun p e s m below meth c0 ls A E hP hK hA hS hl => wkM_rows E hK hA hf rfl hP hS hl)
/-! rule(IIII)I -/
def sgM_rule (σ : Sto) (w0 : Int32) (w1 : Int32) (w2 : Nat → Int32) : Sto := aI (zI (zI σ 502 w0) 543 w1) 644 w2
theorem sgM_rule_self (σ : Sto) : sgM_rule σ (σ.1 502) (σ.1 543) (σ.2.2.1 644) = σ := by
  unfold sgM_rule
  simp only [zI_self, zL_self, aI_self, aL_self]
theorem sgM_rule_zI502 {σ : Sto} {w0 : Int32} {w1 : Int32} {w2 : Nat → Int32} {g : Int32} : zI (sgM_rule σ w0 w1 w2) 502 g = sgM_rule σ g w1 w2 := (cm_zI_aI _ _ _ _ _).trans (congrArg (fun z => aI z 644 w2) ((zI_comm _ (by decide) _ _).trans (congrArg (fun z => zI z 543 w1) (zI_zI _ 502 _ _))))
theorem sgM_rule_zI543 {σ : Sto} {w0 : Int32} {w1 : Int32} {w2 : Nat → Int32} {g : Int32} : zI (sgM_rule σ w0 w1 w2) 543 g = sgM_rule σ w0 g w2 := (cm_zI_aI _ _ _ _ _).trans (congrArg (fun z => aI z 644 w2) (zI_zI _ 543 _ _))
theorem sgM_rule_aI644 {σ : Sto} {w0 : Int32} {w1 : Int32} {w2 : Nat → Int32} {g : Nat → Int32} : aI (sgM_rule σ w0 w1 w2) 644 g = sgM_rule σ w0 w1 g := aI_aI _ 644 _ _
theorem sgM_rule_rzI502 {σ : Sto} {w0 : Int32} {w1 : Int32} {w2 : Nat → Int32} : (sgM_rule σ w0 w1 w2).1 502 = w0 := rfl
theorem sgM_rule_rzI543 {σ : Sto} {w0 : Int32} {w1 : Int32} {w2 : Nat → Int32} : (sgM_rule σ w0 w1 w2).1 543 = w1 := rfl
theorem sgM_rule_raI611 {σ : Sto} {w0 : Int32} {w1 : Int32} {w2 : Nat → Int32} : (sgM_rule σ w0 w1 w2).2.2.1 611 = σ.2.2.1 611 := rfl
theorem sgM_rule_raI644 {σ : Sto} {w0 : Int32} {w1 : Int32} {w2 : Nat → Int32} : (sgM_rule σ w0 w1 w2).2.2.1 644 = w2 := rfl
abbrev rmM_rule : Room := { frames := 2, cells := 0, slots := 0, locals := 41 }
set_option maxHeartbeats 4000000 in
theorem wkM_rule {x1 : Int32} {x2 : Int32} {x3 : Int32} {x4 : Int32} {r_ : Int32} {w_zI502 : Int32} {w_zI543 : Int32} {w_aI644 : Nat → Int32} (E : EN p s m args meth c0 RX16 cX16_rule 5 (Option.some Jvm.ClassFile.FieldType.int)) (hK : KK D clsA G s) (hA : ∀ q, PA dscM ad s.heap.size q → A q) (hf : mo_rule (σ.1 502) (σ.1 543) (σ.2.2.1 611) (σ.2.2.1 644) x1 x2 x3 x4 = some (r_, w_zI502, w_zI543, w_aI644)) (hQ : Q = MQ below (va_Qi (fun x (_ : Unit) => x = r_) (fun _ t => PM D G ad (sgM_rule σ w_zI502 w_zI543 w_aI644) t.heap ∧ KK D clsA G t) A) args s 0 0 A) (hP : PM D G ad σ H) (hS : va_S A s.heap H locs) (hl : lv_has ls 5 [(0, .ref (ad 500)), (1, .int x1), (2, .int x2), (3, .int x3), (4, .int x4)]) : W p l e rmM_rule s m args below meth c0 H locs 0 0 Q (F0 m 0 ls []) := by
  obtain ⟨⟨hx, hb, hml, hown, hts⟩, hr, hlk⟩ := id E
  have hP := hP.to (sgM_rule_self σ).symm
  unfold mo_rule at hf
  refine lv_aload_n hx hb dX16_rule_0 rfl (lv_at hl 0 rfl) ?_
  refine lv_iconst hx hb dX16_rule_1 ic_0 ?_
  refine uM_2 E hK hP hS (hA _ (PA_c dM_500)) sgM_rule_zI502 dX16_rule_2 (fun H locs hP hS => ?_)
  refine lv_aload_n hx hb dX16_rule_5 rfl (lv_at hl 0 rfl) ?_
  refine gM_43 (v := (σ.1 543)) E hK hP sgM_rule_rzI543 dX16_rule_6 ?_
  refine lv_bipush hx hb dX16_rule_9 bp_30 ?_
  refine lv_icmp_eq (tgt := 53) hx hb dX16_rule_11 (by decide) (fun c1 => ?_) (fun c1 => ?_)
  · have hf := ifT c1 hf
    refine lv_iconst hx hb dX16_rule_53 ic_m1 ?_
    cases hf
    rw [hQ]; exact p_iret hx hb hr hlk hK hP hS dX16_rule_54
  · have hf := ifF c1 hf
    refine lv_aload_n hx hb dX16_rule_14 rfl (lv_at hl 0 rfl) ?_
    refine lv_iload_n hx hb dX16_rule_15 rfl (lv_at hl 1 rfl) ?_
    obtain ⟨v2, u3, hf⟩ := bdP hf
    refine cM_isPlace E hK hP hS hA sgM_rule_raI611 u3 ⟨Nat.le_of_ble_eq_true rfl, Nat.le_of_ble_eq_true rfl⟩ ⟨Nat.zero_le _, Nat.zero_le _⟩ hl.1 (Nat.le_of_ble_eq_true rfl) dX16_rule_16 (fun H locs hP hS => ?_)
    refine lv_if_eq (tgt := 53) hx hb dX16_rule_19 (by decide) (fun c4 => ?_) (fun c4 => ?_)
    · have hf := ifT c4 hf
      refine lv_iconst hx hb dX16_rule_53 ic_m1 ?_
      cases hf
      rw [hQ]; exact p_iret hx hb hr hlk hK hP hS dX16_rule_54
    · have hf := ifF c4 hf
      refine lv_aload_n hx hb dX16_rule_22 rfl (lv_at hl 0 rfl) ?_
      refine lv_iload hx hb dX16_rule_23 (lv_at hl 4 rfl) ?_
      obtain ⟨v5, u6, hf⟩ := bdP hf
      refine cM_isPlace E hK hP hS hA sgM_rule_raI611 u6 ⟨Nat.le_of_ble_eq_true rfl, Nat.le_of_ble_eq_true rfl⟩ ⟨Nat.zero_le _, Nat.zero_le _⟩ hl.1 (Nat.le_of_ble_eq_true rfl) dX16_rule_25 (fun H locs hP hS => ?_)
      refine lv_if_eq (tgt := 53) hx hb dX16_rule_28 (by decide) (fun c7 => ?_) (fun c7 => ?_)
      · have hf := ifT c7 hf
        refine lv_iconst hx hb dX16_rule_53 ic_m1 ?_
        cases hf
        rw [hQ]; exact p_iret hx hb hr hlk hK hP hS dX16_rule_54
      · have hf := ifF c7 hf
        refine lv_iload_n hx hb dX16_rule_31 rfl (lv_at hl 2 rfl) ?_
        refine lv_iconst hx hb dX16_rule_32 ic_m1 ?_
        have J55 : mo_rule_J55 (σ.1 543) (σ.2.2.1 644) x1 x2 x3 x4 = some (r_, w_zI502, w_zI543, w_aI644) → ∀ (H : Heap) (locs : List Loc), PM D G ad (sgM_rule σ 0 (σ.1 543) (σ.2.2.1 644)) H → va_S A s.heap H locs → ∀ (ls : Array Slot), lv_has ls 5 [(0, .ref (ad 500)), (1, .int x1), (2, .int x2), (3, .int x3), (4, .int x4)] → W p l e rmM_rule s m args below meth c0 H locs 0 0 Q (F0 m 55 ls []) := by
          intro  hf H locs hP hS ls hl
          unfold mo_rule_J55 at hf
          refine lv_aload_n hx hb dX16_rule_55 rfl (lv_at hl 0 rfl) ?_
          refine gM_44 E hK hP dX16_rule_56 ?_
          refine lv_iconst hx hb dX16_rule_59 ic_4 ?_
          refine lv_aload_n hx hb dX16_rule_60 rfl (lv_at hl 0 rfl) ?_
          refine gM_43 (v := (σ.1 543)) E hK hP sgM_rule_rzI543 dX16_rule_61 ?_
          refine lv_imul hx hb dX16_rule_64 ?_
          refine lv_iload_n hx hb dX16_rule_65 rfl (lv_at hl 1 rfl) ?_
          obtain ⟨a8, ha8, hf⟩ := bdP hf
          refine p_iast hx hb hK hP hS (hA _ (PA_c dM_644)) dM_644 sgM_rule_raI644 ha8 sgM_rule_aI644 dX16_rule_66 (fun H locs hP hS => ?_)
          refine lv_aload_n hx hb dX16_rule_67 rfl (lv_at hl 0 rfl) ?_
          refine gM_44 E hK hP dX16_rule_68 ?_
          refine lv_iconst hx hb dX16_rule_71 ic_4 ?_
          refine lv_aload_n hx hb dX16_rule_72 rfl (lv_at hl 0 rfl) ?_
          refine gM_43 (v := (σ.1 543)) E hK hP sgM_rule_rzI543 dX16_rule_73 ?_
          refine lv_imul hx hb dX16_rule_76 ?_
          refine lv_iconst hx hb dX16_rule_77 ic_1 ?_
          refine lv_iadd hx hb dX16_rule_78 ?_
          refine lv_iload_n hx hb dX16_rule_79 rfl (lv_at hl 2 rfl) ?_
          obtain ⟨a9, ha9, hf⟩ := bdP hf
          refine p_iast hx hb hK hP hS (hA _ (PA_c dM_644)) dM_644 sgM_rule_raI644 ha9 sgM_rule_aI644 dX16_rule_80 (fun H locs hP hS => ?_)
          refine lv_aload_n hx hb dX16_rule_81 rfl (lv_at hl 0 rfl) ?_
          refine gM_44 E hK hP dX16_rule_82 ?_
          refine lv_iconst hx hb dX16_rule_85 ic_4 ?_
          refine lv_aload_n hx hb dX16_rule_86 rfl (lv_at hl 0 rfl) ?_
          refine gM_43 (v := (σ.1 543)) E hK hP sgM_rule_rzI543 dX16_rule_87 ?_
          refine lv_imul hx hb dX16_rule_90 ?_
          refine lv_iconst hx hb dX16_rule_91 ic_2 ?_
          refine lv_iadd hx hb dX16_rule_92 ?_
          refine lv_iload_n hx hb dX16_rule_93 rfl (lv_at hl 3 rfl) ?_
          obtain ⟨a10, ha10, hf⟩ := bdP hf
          refine p_iast hx hb hK hP hS (hA _ (PA_c dM_644)) dM_644 sgM_rule_raI644 ha10 sgM_rule_aI644 dX16_rule_94 (fun H locs hP hS => ?_)
          refine lv_aload_n hx hb dX16_rule_95 rfl (lv_at hl 0 rfl) ?_
          refine gM_44 E hK hP dX16_rule_96 ?_
          refine lv_iconst hx hb dX16_rule_99 ic_4 ?_
          refine lv_aload_n hx hb dX16_rule_100 rfl (lv_at hl 0 rfl) ?_
          refine gM_43 (v := (σ.1 543)) E hK hP sgM_rule_rzI543 dX16_rule_101 ?_
          refine lv_imul hx hb dX16_rule_104 ?_
          refine lv_iconst hx hb dX16_rule_105 ic_3 ?_
          refine lv_iadd hx hb dX16_rule_106 ?_
          refine lv_iload hx hb dX16_rule_107 (lv_at hl 4 rfl) ?_
          obtain ⟨a11, ha11, hf⟩ := bdP hf
          refine p_iast hx hb hK hP hS (hA _ (PA_c dM_644)) dM_644 sgM_rule_raI644 ha11 sgM_rule_aI644 dX16_rule_109 (fun H locs hP hS => ?_)
          refine lv_aload_n hx hb dX16_rule_110 rfl (lv_at hl 0 rfl) ?_
          refine lv_dup hx hb dX16_rule_111 rfl ?_
          refine gM_43 (v := (σ.1 543)) E hK hP sgM_rule_rzI543 dX16_rule_112 ?_
          refine lv_iconst hx hb dX16_rule_115 ic_1 ?_
          refine lv_iadd hx hb dX16_rule_116 ?_
          obtain ⟨v12, hv12, hf⟩ := bdP hf
          refine nm_i (Option.some.inj hv12) ?_
          refine uM_43 E hK hP hS (hA _ (PA_c dM_500)) sgM_rule_zI543 dX16_rule_117 (fun H locs hP hS => ?_)
          refine lv_aload_n hx hb dX16_rule_120 rfl (lv_at hl 0 rfl) ?_
          refine gM_43 (v := v12) E hK hP sgM_rule_rzI543 dX16_rule_121 ?_
          refine lv_iconst hx hb dX16_rule_124 ic_1 ?_
          refine lv_isub hx hb dX16_rule_125 ?_
          cases hf
          rw [hQ]; exact p_iret hx hb hr hlk hK hP hS dX16_rule_126
        refine lv_icmp_eq (tgt := 55) hx hb dX16_rule_33 (by decide) (fun c13 => ?_) (fun c13 => ?_)
        · have hf := ifT c13 hf
          exact J55  hf H locs hP hS ls (lv_sub hl [0, 1, 2, 3, 4] rfl)
        · have hf := ifF c13 hf
          refine lv_aload_n hx hb dX16_rule_36 rfl (lv_at hl 0 rfl) ?_
          refine lv_iload_n hx hb dX16_rule_37 rfl (lv_at hl 2 rfl) ?_
          obtain ⟨v14, u15, hf⟩ := bdP hf
          refine cM_isDoubtful E hK hP hS hA sgM_rule_raI611 u15 ⟨Nat.le_of_ble_eq_true rfl, Nat.le_of_ble_eq_true rfl⟩ ⟨Nat.zero_le _, Nat.zero_le _⟩ hl.1 (Nat.le_of_ble_eq_true rfl) dX16_rule_38 (fun H locs hP hS => ?_)
          refine lv_if_eq (tgt := 53) hx hb dX16_rule_41 (by decide) (fun c16 => ?_) (fun c16 => ?_)
          · have hf := ifT c16 hf
            refine lv_iconst hx hb dX16_rule_53 ic_m1 ?_
            cases hf
            rw [hQ]; exact p_iret hx hb hr hlk hK hP hS dX16_rule_54
          · have hf := ifF c16 hf
            refine lv_iload_n hx hb dX16_rule_44 rfl (lv_at hl 3 rfl) ?_
            refine lv_iconst hx hb dX16_rule_45 ic_0 ?_
            refine lv_iconst hx hb dX16_rule_46 ic_2 ?_
            obtain ⟨v17, u18, hf⟩ := bdP hf
            refine cM_isIn E hK hP hS hA u18 ⟨Nat.le_of_ble_eq_true rfl, Nat.le_of_ble_eq_true rfl⟩ ⟨Nat.zero_le _, Nat.zero_le _⟩ hl.1 (Nat.le_of_ble_eq_true rfl) dX16_rule_47 (fun H locs hP hS => ?_)
            refine lv_if_ne (tgt := 55) hx hb dX16_rule_50 (by decide) (fun c19 => ?_) (fun c19 => ?_)
            · have hf := ifF c19 hf
              exact J55  hf H locs hP hS ls (lv_sub hl [0, 1, 2, 3, 4] rfl)
            · have hf := ifT c19 hf
              refine lv_iconst hx hb dX16_rule_53 ic_m1 ?_
              cases hf
              rw [hQ]; exact p_iret hx hb hr hlk hK hP hS dX16_rule_54
theorem kM_rule (l : Launch) (D : va_G) (G : Nat → ClassId) (ad : Nat → Nat) (σ : Sto) {x1 : Int32} {x2 : Int32} {x3 : Int32} {x4 : Int32} {r_ : Int32} {w_zI502 : Int32} {w_zI543 : Int32} {w_aI644 : Nat → Int32} (hf : mo_rule (σ.1 502) (σ.1 543) (σ.2.2.1 611) (σ.2.2.1 644) x1 x2 x3 x4 = some (r_, w_zI502, w_zI543, w_aI644)) : CtI l D clsA G dscM ad yX16_rule (ws_ yX16_rule cX16_rule 5 (Option.some Jvm.ClassFile.FieldType.int)) rmM_rule [.ref (ad 500), .int x1, .int x2, .int x3, .int x4] σ r_ (sgM_rule σ w_zI502 w_zI543 w_aI644) :=
  p_ctI (by decide +kernel) (Nat.le_of_ble_eq_true rfl) (fun p e s m below meth c0 ls A E hP hK hA hS hl => wkM_rule E hK hA hf rfl hP hS hl)
/-! ringIn(II)I -/
def sgM_ringIn (σ : Sto) (w0 : Int32) (w1 : Int32) (w2 : Int64) (w3 : Nat → Int32) (w4 : Nat → Int32) (w5 : Nat → Int32) (w6 : Nat → Int32) : Sto := aI (aI (aI (aI (zL (zI (zI σ 545 w0) 546 w1) 547 w2) 629 w3) 640 w4) 650 w5) 651 w6
theorem sgM_ringIn_self (σ : Sto) : sgM_ringIn σ (σ.1 545) (σ.1 546) (σ.2.1 547) (σ.2.2.1 629) (σ.2.2.1 640) (σ.2.2.1 650) (σ.2.2.1 651) = σ := by
  unfold sgM_ringIn
  simp only [zI_self, zL_self, aI_self, aL_self]
theorem sgM_ringIn_zI545 {σ : Sto} {w0 : Int32} {w1 : Int32} {w2 : Int64} {w3 : Nat → Int32} {w4 : Nat → Int32} {w5 : Nat → Int32} {w6 : Nat → Int32} {g : Int32} : zI (sgM_ringIn σ w0 w1 w2 w3 w4 w5 w6) 545 g = sgM_ringIn σ g w1 w2 w3 w4 w5 w6 := (cm_zI_aI _ _ _ _ _).trans (congrArg (fun z => aI z 651 w6) ((cm_zI_aI _ _ _ _ _).trans (congrArg (fun z => aI z 650 w5) ((cm_zI_aI _ _ _ _ _).trans (congrArg (fun z => aI z 640 w4) ((cm_zI_aI _ _ _ _ _).trans (congrArg (fun z => aI z 629 w3) ((cm_zI_zL _ _ _ _ _).trans (congrArg (fun z => zL z 547 w2) ((zI_comm _ (by decide) _ _).trans (congrArg (fun z => zI z 546 w1) (zI_zI _ 545 _ _))))))))))))
theorem sgM_ringIn_zI546 {σ : Sto} {w0 : Int32} {w1 : Int32} {w2 : Int64} {w3 : Nat → Int32} {w4 : Nat → Int32} {w5 : Nat → Int32} {w6 : Nat → Int32} {g : Int32} : zI (sgM_ringIn σ w0 w1 w2 w3 w4 w5 w6) 546 g = sgM_ringIn σ w0 g w2 w3 w4 w5 w6 := (cm_zI_aI _ _ _ _ _).trans (congrArg (fun z => aI z 651 w6) ((cm_zI_aI _ _ _ _ _).trans (congrArg (fun z => aI z 650 w5) ((cm_zI_aI _ _ _ _ _).trans (congrArg (fun z => aI z 640 w4) ((cm_zI_aI _ _ _ _ _).trans (congrArg (fun z => aI z 629 w3) ((cm_zI_zL _ _ _ _ _).trans (congrArg (fun z => zL z 547 w2) (zI_zI _ 546 _ _))))))))))
theorem sgM_ringIn_zL547 {σ : Sto} {w0 : Int32} {w1 : Int32} {w2 : Int64} {w3 : Nat → Int32} {w4 : Nat → Int32} {w5 : Nat → Int32} {w6 : Nat → Int32} {g : Int64} : zL (sgM_ringIn σ w0 w1 w2 w3 w4 w5 w6) 547 g = sgM_ringIn σ w0 w1 g w3 w4 w5 w6 := (cm_zL_aI _ _ _ _ _).trans (congrArg (fun z => aI z 651 w6) ((cm_zL_aI _ _ _ _ _).trans (congrArg (fun z => aI z 650 w5) ((cm_zL_aI _ _ _ _ _).trans (congrArg (fun z => aI z 640 w4) ((cm_zL_aI _ _ _ _ _).trans (congrArg (fun z => aI z 629 w3) (zL_zL _ 547 _ _))))))))
theorem sgM_ringIn_aI629 {σ : Sto} {w0 : Int32} {w1 : Int32} {w2 : Int64} {w3 : Nat → Int32} {w4 : Nat → Int32} {w5 : Nat → Int32} {w6 : Nat → Int32} {g : Nat → Int32} : aI (sgM_ringIn σ w0 w1 w2 w3 w4 w5 w6) 629 g = sgM_ringIn σ w0 w1 w2 g w4 w5 w6 := (aI_comm _ (by decide) _ _).trans (congrArg (fun z => aI z 651 w6) ((aI_comm _ (by decide) _ _).trans (congrArg (fun z => aI z 650 w5) ((aI_comm _ (by decide) _ _).trans (congrArg (fun z => aI z 640 w4) (aI_aI _ 629 _ _))))))
theorem sgM_ringIn_aI640 {σ : Sto} {w0 : Int32} {w1 : Int32} {w2 : Int64} {w3 : Nat → Int32} {w4 : Nat → Int32} {w5 : Nat → Int32} {w6 : Nat → Int32} {g : Nat → Int32} : aI (sgM_ringIn σ w0 w1 w2 w3 w4 w5 w6) 640 g = sgM_ringIn σ w0 w1 w2 w3 g w5 w6 := (aI_comm _ (by decide) _ _).trans (congrArg (fun z => aI z 651 w6) ((aI_comm _ (by decide) _ _).trans (congrArg (fun z => aI z 650 w5) (aI_aI _ 640 _ _))))
theorem sgM_ringIn_aI650 {σ : Sto} {w0 : Int32} {w1 : Int32} {w2 : Int64} {w3 : Nat → Int32} {w4 : Nat → Int32} {w5 : Nat → Int32} {w6 : Nat → Int32} {g : Nat → Int32} : aI (sgM_ringIn σ w0 w1 w2 w3 w4 w5 w6) 650 g = sgM_ringIn σ w0 w1 w2 w3 w4 g w6 := (aI_comm _ (by decide) _ _).trans (congrArg (fun z => aI z 651 w6) (aI_aI _ 650 _ _))
theorem sgM_ringIn_aI651 {σ : Sto} {w0 : Int32} {w1 : Int32} {w2 : Int64} {w3 : Nat → Int32} {w4 : Nat → Int32} {w5 : Nat → Int32} {w6 : Nat → Int32} {g : Nat → Int32} : aI (sgM_ringIn σ w0 w1 w2 w3 w4 w5 w6) 651 g = sgM_ringIn σ w0 w1 w2 w3 w4 w5 g := aI_aI _ 651 _ _
theorem sgM_ringIn_rzI541 {σ : Sto} {w0 : Int32} {w1 : Int32} {w2 : Int64} {w3 : Nat → Int32} {w4 : Nat → Int32} {w5 : Nat → Int32} {w6 : Nat → Int32} : (sgM_ringIn σ w0 w1 w2 w3 w4 w5 w6).1 541 = σ.1 541 := rfl
theorem sgM_ringIn_rzI543 {σ : Sto} {w0 : Int32} {w1 : Int32} {w2 : Int64} {w3 : Nat → Int32} {w4 : Nat → Int32} {w5 : Nat → Int32} {w6 : Nat → Int32} : (sgM_ringIn σ w0 w1 w2 w3 w4 w5 w6).1 543 = σ.1 543 := rfl
theorem sgM_ringIn_rzI545 {σ : Sto} {w0 : Int32} {w1 : Int32} {w2 : Int64} {w3 : Nat → Int32} {w4 : Nat → Int32} {w5 : Nat → Int32} {w6 : Nat → Int32} : (sgM_ringIn σ w0 w1 w2 w3 w4 w5 w6).1 545 = w0 := rfl
theorem sgM_ringIn_rzI546 {σ : Sto} {w0 : Int32} {w1 : Int32} {w2 : Int64} {w3 : Nat → Int32} {w4 : Nat → Int32} {w5 : Nat → Int32} {w6 : Nat → Int32} : (sgM_ringIn σ w0 w1 w2 w3 w4 w5 w6).1 546 = w1 := rfl
theorem sgM_ringIn_rzL547 {σ : Sto} {w0 : Int32} {w1 : Int32} {w2 : Int64} {w3 : Nat → Int32} {w4 : Nat → Int32} {w5 : Nat → Int32} {w6 : Nat → Int32} : (sgM_ringIn σ w0 w1 w2 w3 w4 w5 w6).2.1 547 = w2 := rfl
theorem sgM_ringIn_raI611 {σ : Sto} {w0 : Int32} {w1 : Int32} {w2 : Int64} {w3 : Nat → Int32} {w4 : Nat → Int32} {w5 : Nat → Int32} {w6 : Nat → Int32} : (sgM_ringIn σ w0 w1 w2 w3 w4 w5 w6).2.2.1 611 = σ.2.2.1 611 := rfl
theorem sgM_ringIn_raI615 {σ : Sto} {w0 : Int32} {w1 : Int32} {w2 : Int64} {w3 : Nat → Int32} {w4 : Nat → Int32} {w5 : Nat → Int32} {w6 : Nat → Int32} : (sgM_ringIn σ w0 w1 w2 w3 w4 w5 w6).2.2.1 615 = σ.2.2.1 615 := rfl
theorem sgM_ringIn_raI618 {σ : Sto} {w0 : Int32} {w1 : Int32} {w2 : Int64} {w3 : Nat → Int32} {w4 : Nat → Int32} {w5 : Nat → Int32} {w6 : Nat → Int32} : (sgM_ringIn σ w0 w1 w2 w3 w4 w5 w6).2.2.1 618 = σ.2.2.1 618 := rfl
theorem sgM_ringIn_raI620 {σ : Sto} {w0 : Int32} {w1 : Int32} {w2 : Int64} {w3 : Nat → Int32} {w4 : Nat → Int32} {w5 : Nat → Int32} {w6 : Nat → Int32} : (sgM_ringIn σ w0 w1 w2 w3 w4 w5 w6).2.2.1 620 = σ.2.2.1 620 := rfl
theorem sgM_ringIn_raI621 {σ : Sto} {w0 : Int32} {w1 : Int32} {w2 : Int64} {w3 : Nat → Int32} {w4 : Nat → Int32} {w5 : Nat → Int32} {w6 : Nat → Int32} : (sgM_ringIn σ w0 w1 w2 w3 w4 w5 w6).2.2.1 621 = σ.2.2.1 621 := rfl
theorem sgM_ringIn_raI624 {σ : Sto} {w0 : Int32} {w1 : Int32} {w2 : Int64} {w3 : Nat → Int32} {w4 : Nat → Int32} {w5 : Nat → Int32} {w6 : Nat → Int32} : (sgM_ringIn σ w0 w1 w2 w3 w4 w5 w6).2.2.1 624 = σ.2.2.1 624 := rfl
theorem sgM_ringIn_raI629 {σ : Sto} {w0 : Int32} {w1 : Int32} {w2 : Int64} {w3 : Nat → Int32} {w4 : Nat → Int32} {w5 : Nat → Int32} {w6 : Nat → Int32} : (sgM_ringIn σ w0 w1 w2 w3 w4 w5 w6).2.2.1 629 = w3 := rfl
theorem sgM_ringIn_raI631 {σ : Sto} {w0 : Int32} {w1 : Int32} {w2 : Int64} {w3 : Nat → Int32} {w4 : Nat → Int32} {w5 : Nat → Int32} {w6 : Nat → Int32} : (sgM_ringIn σ w0 w1 w2 w3 w4 w5 w6).2.2.1 631 = σ.2.2.1 631 := rfl
theorem sgM_ringIn_raI640 {σ : Sto} {w0 : Int32} {w1 : Int32} {w2 : Int64} {w3 : Nat → Int32} {w4 : Nat → Int32} {w5 : Nat → Int32} {w6 : Nat → Int32} : (sgM_ringIn σ w0 w1 w2 w3 w4 w5 w6).2.2.1 640 = w4 := rfl
theorem sgM_ringIn_raI642 {σ : Sto} {w0 : Int32} {w1 : Int32} {w2 : Int64} {w3 : Nat → Int32} {w4 : Nat → Int32} {w5 : Nat → Int32} {w6 : Nat → Int32} : (sgM_ringIn σ w0 w1 w2 w3 w4 w5 w6).2.2.1 642 = σ.2.2.1 642 := rfl
theorem sgM_ringIn_raI644 {σ : Sto} {w0 : Int32} {w1 : Int32} {w2 : Int64} {w3 : Nat → Int32} {w4 : Nat → Int32} {w5 : Nat → Int32} {w6 : Nat → Int32} : (sgM_ringIn σ w0 w1 w2 w3 w4 w5 w6).2.2.1 644 = σ.2.2.1 644 := rfl
theorem sgM_ringIn_raI650 {σ : Sto} {w0 : Int32} {w1 : Int32} {w2 : Int64} {w3 : Nat → Int32} {w4 : Nat → Int32} {w5 : Nat → Int32} {w6 : Nat → Int32} : (sgM_ringIn σ w0 w1 w2 w3 w4 w5 w6).2.2.1 650 = w5 := rfl
theorem sgM_ringIn_raI651 {σ : Sto} {w0 : Int32} {w1 : Int32} {w2 : Int64} {w3 : Nat → Int32} {w4 : Nat → Int32} {w5 : Nat → Int32} {w6 : Nat → Int32} : (sgM_ringIn σ w0 w1 w2 w3 w4 w5 w6).2.2.1 651 = w6 := rfl
abbrev rmM_ringIn : Room := { frames := 7, cells := 0, slots := 0, locals := 171 }
set_option maxHeartbeats 4000000 in
theorem wkM_ringIn {x1 : Int32} {x2 : Int32} {r_ : Int32} {w_zI545 : Int32} {w_zI546 : Int32} {w_zL547 : Int64} {w_aI629 : Nat → Int32} {w_aI640 : Nat → Int32} {w_aI650 : Nat → Int32} {w_aI651 : Nat → Int32} (E : EN p s m args meth c0 RX16 cX16_ringIn 5 (Option.some Jvm.ClassFile.FieldType.int)) (hK : KK D clsA G s) (hA : ∀ q, PA dscM ad s.heap.size q → A q) (hf : mo_ringIn (σ.1 541) (σ.1 543) (σ.1 545) (σ.1 546) (σ.2.1 547) (σ.2.2.1 611) (σ.2.2.1 615) (σ.2.2.1 618) (σ.2.2.1 620) (σ.2.2.1 621) (σ.2.2.1 624) (σ.2.2.1 629) (σ.2.2.1 631) (σ.2.2.1 640) (σ.2.2.1 642) (σ.2.2.1 644) (σ.2.2.1 650) (σ.2.2.1 651) x1 x2 = some (r_, w_zI545, w_zI546, w_zL547, w_aI629, w_aI640, w_aI650, w_aI651)) (hQ : Q = MQ below (va_Qi (fun x (_ : Unit) => x = r_) (fun _ t => PM D G ad (sgM_ringIn σ w_zI545 w_zI546 w_zL547 w_aI629 w_aI640 w_aI650 w_aI651) t.heap ∧ KK D clsA G t) A) args s 0 0 A) (hP : PM D G ad σ H) (hS : va_S A s.heap H locs) (hl : lv_has ls 5 [(0, .ref (ad 500)), (1, .int x1), (2, .int x2)]) : W p l e rmM_ringIn s m args below meth c0 H locs 0 0 Q (F0 m 0 ls []) := by
  obtain ⟨⟨hx, hb, hml, hown, hts⟩, hr, hlk⟩ := id E
  have hP := hP.to (sgM_ringIn_self σ).symm
  unfold mo_ringIn at hf
  refine lv_aload_n hx hb dX16_ringIn_0 rfl (lv_at hl 0 rfl) ?_
  refine lv_iload_n hx hb dX16_ringIn_1 rfl (lv_at hl 1 rfl) ?_
  obtain ⟨⟨z1, z2, z3⟩, u4, hf⟩ := bdP hf
  dsimp only at hf
  refine cM_setsOut E hK hP hS hA sgM_ringIn_rzI545 sgM_ringIn_rzI546 sgM_ringIn_rzL547 sgM_ringIn_raI611 sgM_ringIn_raI620 sgM_ringIn_raI624 u4 ⟨Nat.le_of_ble_eq_true rfl, Nat.le_of_ble_eq_true rfl⟩ ⟨Nat.zero_le _, Nat.zero_le _⟩ hl.1 (Nat.le_of_ble_eq_true rfl) dX16_ringIn_2 (fun H locs hP hS => ?_)
  rw [sgM_ringIn_zI545, sgM_ringIn_zI546, sgM_ringIn_zL547] at hP
  refine lv_iconst hx hb dX16_ringIn_5 ic_0 ?_
  refine lv_istore_n (lv' := [(3, .int 0), (0, .ref (ad 500)), (1, .int x1), (2, .int x2)]) hx hb dX16_ringIn_6 rfl hl (by decide) rfl (fun ls hl => ?_)
  have LP7 : ∀ (st7 : Int32 × Int32 × Int32 × Int64 × (Nat → Int32) × (Nat → Int32) × (Nat → Int32) × (Nat → Int32)) (ex7 : (Int32 × Int32 × Int32 × Int32 × Int64 × (Nat → Int32) × (Nat → Int32) × (Nat → Int32) × (Nat → Int32)) ⊕ (Int32 × Int32 × Int64 × (Nat → Int32) × (Nat → Int32) × (Nat → Int32) × (Nat → Int32))), loop (mo_ringIn_L7 (σ.1 541) (σ.1 543) (σ.2.2.1 611) (σ.2.2.1 615) (σ.2.2.1 618) (σ.2.2.1 620) (σ.2.2.1 621) (σ.2.2.1 624) (σ.2.2.1 631) (σ.2.2.1 642) (σ.2.2.1 644) x1) st7 = some ex7 → ∀ (H : Heap) (locs : List Loc), PM D G ad (sgM_ringIn σ (st7.2.1) (st7.2.2.1) (st7.2.2.2.1) (st7.2.2.2.2.1) (st7.2.2.2.2.2.1) (st7.2.2.2.2.2.2.1) (st7.2.2.2.2.2.2.2)) H → va_S A s.heap H locs → ∀ (ls : Array Slot), lv_has ls 5 [(0, .ref (ad 500)), (1, .int x1), (2, .int x2), (3, .int (st7.1))] → (∀ (y32 : Int32) (y33 : Int32) (z34 : Int32) (z35 : Int32) (z36 : Int64) (a37 : Nat → Int32) (a38 : Nat → Int32) (a39 : Nat → Int32) (a40 : Nat → Int32), ex7 = (.inl ((y32, y33, z34, z35, z36, a37, a38, a39, a40))) → ∀ (H : Heap) (locs : List Loc), PM D G ad (sgM_ringIn σ z34 z35 z36 a37 a38 a39 a40) H → va_S A s.heap H locs → ∀ (ls : Array Slot), lv_has ls 5 [(0, .ref (ad 500)), (2, .int x2), (3, .int y32), (4, .int y33)] → W p l e rmM_ringIn s m args below meth c0 H locs 0 0 Q (F0 m 44 ls [])) → (∀ (z41 : Int32) (z42 : Int32) (z43 : Int64) (a44 : Nat → Int32) (a45 : Nat → Int32) (a46 : Nat → Int32) (a47 : Nat → Int32), ex7 = (.inr (z41, z42, z43, a44, a45, a46, a47)) → ∀ (H : Heap) (locs : List Loc), PM D G ad (sgM_ringIn σ z41 z42 z43 a44 a45 a46 a47) H → va_S A s.heap H locs → ∀ (ls : Array Slot), lv_has ls 5 [(0, .ref (ad 500)), (2, .int x2)] → W p l e rmM_ringIn s m args below meth c0 H locs 0 0 Q (F0 m 105 ls [])) → W p l e rmM_ringIn s m args below meth c0 H locs 0 0 Q (F0 m 7 ls []) := by
    refine loop_P (fun st7 ex7 o7 hf ih7 hx7 => ?_)
    obtain ⟨y5, z6, z7, z8, a9, a10, a11, a12⟩ := st7
    intro H locs (hP : PM D G ad (sgM_ringIn σ z6 z7 z8 a9 a10 a11 a12) H) hS ls (hl : lv_has ls 5 [(0, .ref (ad 500)), (1, .int x1), (2, .int x2), (3, .int y5)]) KE7_0 KE7_1
    dsimp only [mo_ringIn_L7] at hf
    refine lv_iconst hx hb dX16_ringIn_7 ic_0 ?_
    refine lv_istore (lv' := [(4, .int 0), (0, .ref (ad 500)), (1, .int x1), (2, .int x2), (3, .int y5)]) hx hb dX16_ringIn_8 hl (by decide) rfl (fun ls hl => ?_)
    have LP10 : ∀ (st10 : Int32) (ex10 : (Int32) ⊕ (Unit)), loop (mo_ringIn_L10 y5 z6 z7 a11 a12) st10 = some ex10 → ∀ (H : Heap) (locs : List Loc), PM D G ad (sgM_ringIn σ z6 z7 z8 a9 a10 a11 a12) H → va_S A s.heap H locs → ∀ (ls : Array Slot), lv_has ls 5 [(0, .ref (ad 500)), (1, .int x1), (2, .int x2), (3, .int y5), (4, .int st10)] → (∀ (y20 : Int32), ex10 = (.inl y20) → ∀ (H : Heap) (locs : List Loc), PM D G ad (sgM_ringIn σ z6 z7 z8 a9 a10 a11 a12) H → va_S A s.heap H locs → ∀ (ls : Array Slot), lv_has ls 5 [(0, .ref (ad 500)), (2, .int x2), (3, .int y5), (4, .int y20)] → W p l e rmM_ringIn s m args below meth c0 H locs 0 0 Q (F0 m 44 ls [])) → (ex10 = (.inr ()) → ∀ (H : Heap) (locs : List Loc), PM D G ad (sgM_ringIn σ z6 z7 z8 a9 a10 a11 a12) H → va_S A s.heap H locs → ∀ (ls : Array Slot), lv_has ls 5 [(0, .ref (ad 500)), (1, .int x1), (2, .int x2), (3, .int y5)] → W p l e rmM_ringIn s m args below meth c0 H locs 0 0 Q (F0 m 72 ls [])) → W p l e rmM_ringIn s m args below meth c0 H locs 0 0 Q (F0 m 10 ls []) := by
      refine loop_P (fun st10 ex10 o10 hf ih10 hx10 => ?_)
      obtain ⟨y13, rfl⟩ : ∃ z, z = st10 := ⟨_, rfl⟩
      intro H locs (hP : PM D G ad (sgM_ringIn σ z6 z7 z8 a9 a10 a11 a12) H) hS ls (hl : lv_has ls 5 [(0, .ref (ad 500)), (1, .int x1), (2, .int x2), (3, .int y5), (4, .int y13)]) KE10_0 KE10_1
      dsimp only [mo_ringIn_L10] at hf
      refine lv_iload hx hb dX16_ringIn_10 (lv_at hl 4 rfl) ?_
      refine lv_iload_n hx hb dX16_ringIn_12 rfl (lv_at hl 3 rfl) ?_
      refine lv_icmp_ge (tgt := 72) hx hb dX16_ringIn_13 (by decide) (fun c14 => ?_) (fun c14 => ?_)
      · have hf := ifT c14 hf
        exact KE10_1  (hx10 _ (Option.some.inj hf).symm).symm H locs hP hS ls (lv_sub hl [0, 1, 2, 3] rfl)
      · have hf := ifF c14 hf
        refine lv_aload_n hx hb dX16_ringIn_16 rfl (lv_at hl 0 rfl) ?_
        refine gM_50 E hK hP dX16_ringIn_17 ?_
        refine lv_iload hx hb dX16_ringIn_20 (lv_at hl 4 rfl) ?_
        obtain ⟨v15, hv15, hf⟩ := bdP hf
        refine p_iald hx hb hK hP dM_650 sgM_ringIn_raI650 hv15 dX16_ringIn_22 ?_
        refine lv_aload_n hx hb dX16_ringIn_23 rfl (lv_at hl 0 rfl) ?_
        refine gM_45 (v := z6) E hK hP sgM_ringIn_rzI545 dX16_ringIn_24 ?_
        have J66 : mo_ringIn_J66 y13 = some o10 → ∀ (H : Heap) (locs : List Loc), PM D G ad (sgM_ringIn σ z6 z7 z8 a9 a10 a11 a12) H → va_S A s.heap H locs → ∀ (ls : Array Slot), lv_has ls 5 [(0, .ref (ad 500)), (1, .int x1), (2, .int x2), (3, .int y5), (4, .int y13)] → W p l e rmM_ringIn s m args below meth c0 H locs 0 0 Q (F0 m 66 ls []) := by
          intro  hf H locs hP hS ls hl
          unfold mo_ringIn_J66 at hf
          obtain ⟨v16, hv16, hf⟩ := bdP hf
          refine lv_iinc (v := v16) (lv' := [(4, .int v16), (0, .ref (ad 500)), (1, .int x1), (2, .int x2), (3, .int y5)]) hx hb dX16_ringIn_66 hl (k := 4) rfl (Option.some.inj hv16) (by decide) rfl (fun ls hl => ?_)
          refine lv_goto (tgt := 10) hx hb dX16_ringIn_69 (by decide) ?_
          exact ih10 _ (Option.some.inj hf).symm H locs hP hS ls (lv_sub hl [1, 2, 3, 4, 0] rfl) KE10_0 KE10_1
        refine lv_icmp_ne (tgt := 66) hx hb dX16_ringIn_27 (by decide) (fun c17 => ?_) (fun c17 => ?_)
        · have hf := ifF c17 hf
          exact J66  hf H locs hP hS ls (lv_sub hl [0, 1, 2, 3, 4] rfl)
        · have hf := ifT c17 hf
          refine lv_aload_n hx hb dX16_ringIn_30 rfl (lv_at hl 0 rfl) ?_
          refine gM_51 E hK hP dX16_ringIn_31 ?_
          refine lv_iload hx hb dX16_ringIn_34 (lv_at hl 4 rfl) ?_
          obtain ⟨v18, hv18, hf⟩ := bdP hf
          refine p_iald hx hb hK hP dM_651 sgM_ringIn_raI651 hv18 dX16_ringIn_36 ?_
          refine lv_aload_n hx hb dX16_ringIn_37 rfl (lv_at hl 0 rfl) ?_
          refine gM_46 (v := z7) E hK hP sgM_ringIn_rzI546 dX16_ringIn_38 ?_
          refine lv_icmp_ne (tgt := 66) hx hb dX16_ringIn_41 (by decide) (fun c19 => ?_) (fun c19 => ?_)
          · have hf := ifF c19 hf
            exact J66  hf H locs hP hS ls (lv_sub hl [0, 1, 2, 3, 4] rfl)
          · have hf := ifT c19 hf
            exact KE10_0 _ (hx10 _ (Option.some.inj hf).symm).symm H locs hP hS ls (lv_sub hl [0, 2, 3, 4] rfl)
    obtain ⟨ex10, hlp10, hf⟩ := bdP hf
    refine LP10 0 ex10 hlp10 H locs hP hS ls (lv_sub hl [1, 2, 3, 4, 0] rfl) ?_ ?_
    · intro y20 hex10 H locs hP hS ls hl
      subst ex10
      dsimp only [sE_l, sE_r] at hf
      exact KE7_0 _ _ _ _ _ _ _ _ _ (hx7 _ (Option.some.inj hf).symm).symm H locs hP hS ls (lv_sub hl [0, 1, 2, 3] rfl)
    · intro  hex10 H locs hP hS ls hl
      subst ex10
      dsimp only [sE_l, sE_r] at hf
      refine lv_aload_n hx hb dX16_ringIn_72 rfl (lv_at hl 0 rfl) ?_
      refine gM_50 E hK hP dX16_ringIn_73 ?_
      refine lv_iload_n hx hb dX16_ringIn_76 rfl (lv_at hl 3 rfl) ?_
      refine lv_aload_n hx hb dX16_ringIn_77 rfl (lv_at hl 0 rfl) ?_
      refine gM_45 (v := z6) E hK hP sgM_ringIn_rzI545 dX16_ringIn_78 ?_
      obtain ⟨a21, ha21, hf⟩ := bdP hf
      refine p_iast hx hb hK hP hS (hA _ (PA_c dM_650)) dM_650 sgM_ringIn_raI650 ha21 sgM_ringIn_aI650 dX16_ringIn_81 (fun H locs hP hS => ?_)
      refine lv_aload_n hx hb dX16_ringIn_82 rfl (lv_at hl 0 rfl) ?_
      refine gM_51 E hK hP dX16_ringIn_83 ?_
      refine lv_iload_n hx hb dX16_ringIn_86 rfl (lv_at hl 3 rfl) ?_
      refine lv_aload_n hx hb dX16_ringIn_87 rfl (lv_at hl 0 rfl) ?_
      refine gM_46 (v := z7) E hK hP sgM_ringIn_rzI546 dX16_ringIn_88 ?_
      obtain ⟨a22, ha22, hf⟩ := bdP hf
      refine p_iast hx hb hK hP hS (hA _ (PA_c dM_651)) dM_651 sgM_ringIn_raI651 ha22 sgM_ringIn_aI651 dX16_ringIn_91 (fun H locs hP hS => ?_)
      obtain ⟨v23, hv23, hf⟩ := bdP hf
      refine lv_iinc (v := v23) (lv' := [(3, .int v23), (0, .ref (ad 500)), (1, .int x1), (2, .int x2)]) hx hb dX16_ringIn_92 hl (k := 3) rfl (Option.some.inj hv23) (by decide) rfl (fun ls hl => ?_)
      refine lv_aload_n hx hb dX16_ringIn_95 rfl (lv_at hl 1 rfl) ?_
      refine lv_bipush hx hb dX16_ringIn_96 bp_6 ?_
      refine lv_iload_n hx hb dX16_ringIn_98 rfl (lv_at hl 2 rfl) ?_
      obtain ⟨⟨v24, z25, z26, z27, a28, a29⟩, u30, hf⟩ := bdP hf
      dsimp only at hf
      refine cM_moves E hK hP hS hA sgM_ringIn_rzI541 sgM_ringIn_rzI543 sgM_ringIn_rzI545 sgM_ringIn_rzI546 sgM_ringIn_rzL547 sgM_ringIn_raI611 sgM_ringIn_raI615 sgM_ringIn_raI618 sgM_ringIn_raI620 sgM_ringIn_raI621 sgM_ringIn_raI624 sgM_ringIn_raI629 sgM_ringIn_raI631 sgM_ringIn_raI640 sgM_ringIn_raI642 sgM_ringIn_raI644 u30 ⟨Nat.le_of_ble_eq_true rfl, Nat.le_of_ble_eq_true rfl⟩ ⟨Nat.zero_le _, Nat.zero_le _⟩ hl.1 (Nat.le_of_ble_eq_true rfl) dX16_ringIn_99 (fun H locs hP hS => ?_)
      rw [sgM_ringIn_zI545, sgM_ringIn_zI546, sgM_ringIn_zL547, sgM_ringIn_aI629, sgM_ringIn_aI640] at hP
      refine lv_if_ne (tgt := 7) hx hb dX16_ringIn_102 (by decide) (fun c31 => ?_) (fun c31 => ?_)
      · have hf := ifF c31 hf
        exact ih7 _ (Option.some.inj hf).symm H locs hP hS ls (lv_sub hl [1, 2, 3, 0] rfl) KE7_0 KE7_1
      · have hf := ifT c31 hf
        exact KE7_1 _ _ _ _ _ _ _ (hx7 _ (Option.some.inj hf).symm).symm H locs hP hS ls (lv_sub hl [1, 3] rfl)
  obtain ⟨ex7, hlp7, hf⟩ := bdP hf
  refine LP7 (0, z1, z2, z3, (σ.2.2.1 629), (σ.2.2.1 640), (σ.2.2.1 650), (σ.2.2.1 651)) ex7 hlp7 H locs hP hS ls (lv_sub hl [1, 2, 3, 0] rfl) ?_ ?_
  · intro y32 y33 z34 z35 z36 a37 a38 a39 a40 hex7 H locs hP hS ls hl
    subst ex7
    dsimp only [sE_l, sE_r] at hf
    refine lv_iload_n hx hb dX16_ringIn_44 rfl (lv_at hl 1 rfl) ?_
    refine lv_iload_n hx hb dX16_ringIn_45 rfl (lv_at hl 2 rfl) ?_
    refine lv_iload hx hb dX16_ringIn_46 (lv_at hl 3 rfl) ?_
    refine lv_isub hx hb dX16_ringIn_48 ?_
    refine lv_icmp_ge (tgt := 64) hx hb dX16_ringIn_49 (by decide) (fun c48 => ?_) (fun c48 => ?_)
    · have hf := ifT c48 hf
      refine lv_iconst hx hb dX16_ringIn_64 ic_m1 ?_
      cases hf
      rw [hQ]; exact p_iret hx hb hr hlk hK hP hS dX16_ringIn_65
    · have hf := ifF c48 hf
      refine lv_aload_n hx hb dX16_ringIn_52 rfl (lv_at hl 0 rfl) ?_
      refine gM_50 E hK hP dX16_ringIn_53 ?_
      refine lv_iload hx hb dX16_ringIn_56 (lv_at hl 3 rfl) ?_
      refine lv_iload_n hx hb dX16_ringIn_58 rfl (lv_at hl 1 rfl) ?_
      refine lv_iadd hx hb dX16_ringIn_59 ?_
      obtain ⟨v49, hv49, hf⟩ := bdP hf
      refine p_iald hx hb hK hP dM_650 sgM_ringIn_raI650 hv49 dX16_ringIn_60 ?_
      refine lv_goto (tgt := 65) hx hb dX16_ringIn_61 (by decide) ?_
      cases hf
      rw [hQ]; exact p_iret hx hb hr hlk hK hP hS dX16_ringIn_65
  · intro z41 z42 z43 a44 a45 a46 a47 hex7 H locs hP hS ls hl
    subst ex7
    dsimp only [sE_l, sE_r] at hf
    refine lv_iload_n hx hb dX16_ringIn_105 rfl (lv_at hl 1 rfl) ?_
    refine lv_if_ne (tgt := 116) hx hb dX16_ringIn_106 (by decide) (fun c50 => ?_) (fun c50 => ?_)
    · have hf := ifF c50 hf
      refine lv_iconst hx hb dX16_ringIn_116 ic_m1 ?_
      cases hf
      rw [hQ]; exact p_iret hx hb hr hlk hK hP hS dX16_ringIn_117
    · have hf := ifT c50 hf
      refine lv_aload_n hx hb dX16_ringIn_109 rfl (lv_at hl 0 rfl) ?_
      refine gM_45 (v := z41) E hK hP sgM_ringIn_rzI545 dX16_ringIn_110 ?_
      refine lv_goto (tgt := 117) hx hb dX16_ringIn_113 (by decide) ?_
      cases hf
      rw [hQ]; exact p_iret hx hb hr hlk hK hP hS dX16_ringIn_117
theorem kM_ringIn (l : Launch) (D : va_G) (G : Nat → ClassId) (ad : Nat → Nat) (σ : Sto) {x1 : Int32} {x2 : Int32} {r_ : Int32} {w_zI545 : Int32} {w_zI546 : Int32} {w_zL547 : Int64} {w_aI629 : Nat → Int32} {w_aI640 : Nat → Int32} {w_aI650 : Nat → Int32} {w_aI651 : Nat → Int32} (hf : mo_ringIn (σ.1 541) (σ.1 543) (σ.1 545) (σ.1 546) (σ.2.1 547) (σ.2.2.1 611) (σ.2.2.1 615) (σ.2.2.1 618) (σ.2.2.1 620) (σ.2.2.1 621) (σ.2.2.1 624) (σ.2.2.1 629) (σ.2.2.1 631) (σ.2.2.1 640) (σ.2.2.1 642) (σ.2.2.1 644) (σ.2.2.1 650) (σ.2.2.1 651) x1 x2 = some (r_, w_zI545, w_zI546, w_zL547, w_aI629, w_aI640, w_aI650, w_aI651)) : CtI l D clsA G dscM ad yX16_ringIn (ws_ yX16_ringIn cX16_ringIn 5 (Option.some Jvm.ClassFile.FieldType.int)) rmM_ringIn [.ref (ad 500), .int x1, .int x2] σ r_ (sgM_ringIn σ w_zI545 w_zI546 w_zL547 w_aI629 w_aI640 w_aI650 w_aI651) :=
  p_ctI (by decide +kernel) (Nat.le_of_ble_eq_true rfl) (fun p e s m below meth c0 ls A E hP hK hA hS hl => wkM_ringIn E hK hA hf rfl hP hS hl)
theorem cM_ringIn (E : EN p s m args meth c0 RX16 cc nL ret) (hK : KK D clsA G s) (hP : PM D G ad σ H) (hS : va_S A s.heap H locs) (hA : ∀ q, PA dscM ad s.heap.size q → A q) {x1 : Int32} {x2 : Int32} {r_ : Int32} {w_zI545 : Int32} {w_zI546 : Int32} {w_zL547 : Int64} {w_aI629 : Nat → Int32} {w_aI640 : Nat → Int32} {w_aI650 : Nat → Int32} {w_aI651 : Nat → Int32} {z_rowSize : Int32} (e_zI541 : σ.1 541 = z_rowSize) {z_rules : Int32} (e_zI543 : σ.1 543 = z_rules) {z_atPlace : Int32} (e_zI545 : σ.1 545 = z_atPlace) {z_atKnown : Int32} (e_zI546 : σ.1 546 = z_atKnown) {z_atHours : Int64} (e_zL547 : σ.2.1 547 = z_atHours) {a_many : Nat → Int32} (e_aI611 : σ.2.2.1 611 = a_many) {a_road : Nat → Int32} (e_aI615 : σ.2.2.1 615 = a_road) {a_word : Nat → Int32} (e_aI618 : σ.2.2.1 618 = a_word) {a_seen : Nat → Int32} (e_aI620 : σ.2.2.1 620 = a_seen) {a_between : Nat → Int32} (e_aI621 : σ.2.2.1 621 = a_between) {a_three : Nat → Int32} (e_aI624 : σ.2.2.1 624 = a_three) {a_far : Nat → Int32} (e_aI629 : σ.2.2.1 629 = a_far) {a_act : Nat → Int32} (e_aI631 : σ.2.2.1 631 = a_act) {a_hop : Nat → Int32} (e_aI640 : σ.2.2.1 640 = a_hop) {a_row : Nat → Int32} (e_aI642 : σ.2.2.1 642 = a_row) {a_rule : Nat → Int32} (e_aI644 : σ.2.2.1 644 = a_rule) {a_wentPlace : Nat → Int32} (e_aI650 : σ.2.2.1 650 = a_wentPlace) {a_wentKnown : Nat → Int32} (e_aI651 : σ.2.2.1 651 = a_wentKnown) (hu : mo_ringIn z_rowSize z_rules z_atPlace z_atKnown z_atHours a_many a_road a_word a_seen a_between a_three a_far a_act a_hop a_row a_rule a_wentPlace a_wentKnown x1 x2 = some (r_, w_zI545, w_zI546, w_zL547, w_aI629, w_aI640, w_aI650, w_aI651)) (hR : rmM_ringIn.frames + 1 ≤ R.frames ∧ 8 + (5 + 11) + rmM_ringIn.locals ≤ R.locals) (hcs : cells ≤ R.cells ∧ slots ≤ R.slots) (hsz : ls.size = nL) (hW : (rest.map fun v => v.category).sum ≤ 8) (hdg : decode cc pc = .ok (.invokevirtual 445, 3)) (kk : ∀ (H1 : Heap) (locs1 : List Loc), PM D G ad (aI (aI (aI (aI (zL (zI (zI σ 545 w_zI545) 546 w_zI546) 547 w_zL547) 629 w_aI629) 640 w_aI640) 650 w_aI650) 651 w_aI651) H1 → va_S A s.heap H1 locs1 → W p l e R s m args below meth c0 H1 locs1 cells slots Q (F0 m (pc + 3) ls (.int r_ :: rest))) : W p l e R s m args below meth c0 H locs cells slots Q (F0 m pc ls (.int x2 :: .int x1 :: .ref (ad 500) :: rest)) := by
  subst e_zI541
  subst e_zI543
  subst e_zI545
  subst e_zI546
  subst e_zL547
  subst e_aI611
  subst e_aI615
  subst e_aI618
  subst e_aI620
  subst e_aI621
  subst e_aI624
  subst e_aI629
  subst e_aI631
  subst e_aI640
  subst e_aI642
  subst e_aI644
  subst e_aI650
  subst e_aI651
  exact p_callI (As := [.int x1, .int x2]) (rest := rest) E.1 hK hP hS hA (kM_ringIn l D G ad σ hu) (cwV 2 E.1.2.2.2.2 (lw_V q2201 q2203 qs116 q142 q2204) rfl rfl rfl (by decide +kernel) hR) dM_500 rfl rfl rfl hsz rfl hW hdg hcs kk
/-! ring(I)I -/
def sgM_ring (σ : Sto) (w0 : Int32) (w1 : Int32) (w2 : Int32) (w3 : Int64) (w4 : Nat → Int32) (w5 : Nat → Int32) (w6 : Nat → Int32) (w7 : Nat → Int32) : Sto := aI (aI (aI (aI (zL (zI (zI (zI σ 502 w0) 545 w1) 546 w2) 547 w3) 629 w4) 640 w5) 650 w6) 651 w7
theorem sgM_ring_self (σ : Sto) : sgM_ring σ (σ.1 502) (σ.1 545) (σ.1 546) (σ.2.1 547) (σ.2.2.1 629) (σ.2.2.1 640) (σ.2.2.1 650) (σ.2.2.1 651) = σ := by
  unfold sgM_ring
  simp only [zI_self, zL_self, aI_self, aL_self]
theorem sgM_ring_zI502 {σ : Sto} {w0 : Int32} {w1 : Int32} {w2 : Int32} {w3 : Int64} {w4 : Nat → Int32} {w5 : Nat → Int32} {w6 : Nat → Int32} {w7 : Nat → Int32} {g : Int32} : zI (sgM_ring σ w0 w1 w2 w3 w4 w5 w6 w7) 502 g = sgM_ring σ g w1 w2 w3 w4 w5 w6 w7 := (cm_zI_aI _ _ _ _ _).trans (congrArg (fun z => aI z 651 w7) ((cm_zI_aI _ _ _ _ _).trans (congrArg (fun z => aI z 650 w6) ((cm_zI_aI _ _ _ _ _).trans (congrArg (fun z => aI z 640 w5) ((cm_zI_aI _ _ _ _ _).trans (congrArg (fun z => aI z 629 w4) ((cm_zI_zL _ _ _ _ _).trans (congrArg (fun z => zL z 547 w3) ((zI_comm _ (by decide) _ _).trans (congrArg (fun z => zI z 546 w2) ((zI_comm _ (by decide) _ _).trans (congrArg (fun z => zI z 545 w1) (zI_zI _ 502 _ _))))))))))))))
theorem sgM_ring_zI545 {σ : Sto} {w0 : Int32} {w1 : Int32} {w2 : Int32} {w3 : Int64} {w4 : Nat → Int32} {w5 : Nat → Int32} {w6 : Nat → Int32} {w7 : Nat → Int32} {g : Int32} : zI (sgM_ring σ w0 w1 w2 w3 w4 w5 w6 w7) 545 g = sgM_ring σ w0 g w2 w3 w4 w5 w6 w7 := (cm_zI_aI _ _ _ _ _).trans (congrArg (fun z => aI z 651 w7) ((cm_zI_aI _ _ _ _ _).trans (congrArg (fun z => aI z 650 w6) ((cm_zI_aI _ _ _ _ _).trans (congrArg (fun z => aI z 640 w5) ((cm_zI_aI _ _ _ _ _).trans (congrArg (fun z => aI z 629 w4) ((cm_zI_zL _ _ _ _ _).trans (congrArg (fun z => zL z 547 w3) ((zI_comm _ (by decide) _ _).trans (congrArg (fun z => zI z 546 w2) (zI_zI _ 545 _ _))))))))))))
theorem sgM_ring_zI546 {σ : Sto} {w0 : Int32} {w1 : Int32} {w2 : Int32} {w3 : Int64} {w4 : Nat → Int32} {w5 : Nat → Int32} {w6 : Nat → Int32} {w7 : Nat → Int32} {g : Int32} : zI (sgM_ring σ w0 w1 w2 w3 w4 w5 w6 w7) 546 g = sgM_ring σ w0 w1 g w3 w4 w5 w6 w7 := (cm_zI_aI _ _ _ _ _).trans (congrArg (fun z => aI z 651 w7) ((cm_zI_aI _ _ _ _ _).trans (congrArg (fun z => aI z 650 w6) ((cm_zI_aI _ _ _ _ _).trans (congrArg (fun z => aI z 640 w5) ((cm_zI_aI _ _ _ _ _).trans (congrArg (fun z => aI z 629 w4) ((cm_zI_zL _ _ _ _ _).trans (congrArg (fun z => zL z 547 w3) (zI_zI _ 546 _ _))))))))))
theorem sgM_ring_zL547 {σ : Sto} {w0 : Int32} {w1 : Int32} {w2 : Int32} {w3 : Int64} {w4 : Nat → Int32} {w5 : Nat → Int32} {w6 : Nat → Int32} {w7 : Nat → Int32} {g : Int64} : zL (sgM_ring σ w0 w1 w2 w3 w4 w5 w6 w7) 547 g = sgM_ring σ w0 w1 w2 g w4 w5 w6 w7 := (cm_zL_aI _ _ _ _ _).trans (congrArg (fun z => aI z 651 w7) ((cm_zL_aI _ _ _ _ _).trans (congrArg (fun z => aI z 650 w6) ((cm_zL_aI _ _ _ _ _).trans (congrArg (fun z => aI z 640 w5) ((cm_zL_aI _ _ _ _ _).trans (congrArg (fun z => aI z 629 w4) (zL_zL _ 547 _ _))))))))
theorem sgM_ring_aI629 {σ : Sto} {w0 : Int32} {w1 : Int32} {w2 : Int32} {w3 : Int64} {w4 : Nat → Int32} {w5 : Nat → Int32} {w6 : Nat → Int32} {w7 : Nat → Int32} {g : Nat → Int32} : aI (sgM_ring σ w0 w1 w2 w3 w4 w5 w6 w7) 629 g = sgM_ring σ w0 w1 w2 w3 g w5 w6 w7 := (aI_comm _ (by decide) _ _).trans (congrArg (fun z => aI z 651 w7) ((aI_comm _ (by decide) _ _).trans (congrArg (fun z => aI z 650 w6) ((aI_comm _ (by decide) _ _).trans (congrArg (fun z => aI z 640 w5) (aI_aI _ 629 _ _))))))
theorem sgM_ring_aI640 {σ : Sto} {w0 : Int32} {w1 : Int32} {w2 : Int32} {w3 : Int64} {w4 : Nat → Int32} {w5 : Nat → Int32} {w6 : Nat → Int32} {w7 : Nat → Int32} {g : Nat → Int32} : aI (sgM_ring σ w0 w1 w2 w3 w4 w5 w6 w7) 640 g = sgM_ring σ w0 w1 w2 w3 w4 g w6 w7 := (aI_comm _ (by decide) _ _).trans (congrArg (fun z => aI z 651 w7) ((aI_comm _ (by decide) _ _).trans (congrArg (fun z => aI z 650 w6) (aI_aI _ 640 _ _))))
theorem sgM_ring_aI650 {σ : Sto} {w0 : Int32} {w1 : Int32} {w2 : Int32} {w3 : Int64} {w4 : Nat → Int32} {w5 : Nat → Int32} {w6 : Nat → Int32} {w7 : Nat → Int32} {g : Nat → Int32} : aI (sgM_ring σ w0 w1 w2 w3 w4 w5 w6 w7) 650 g = sgM_ring σ w0 w1 w2 w3 w4 w5 g w7 := (aI_comm _ (by decide) _ _).trans (congrArg (fun z => aI z 651 w7) (aI_aI _ 650 _ _))
theorem sgM_ring_aI651 {σ : Sto} {w0 : Int32} {w1 : Int32} {w2 : Int32} {w3 : Int64} {w4 : Nat → Int32} {w5 : Nat → Int32} {w6 : Nat → Int32} {w7 : Nat → Int32} {g : Nat → Int32} : aI (sgM_ring σ w0 w1 w2 w3 w4 w5 w6 w7) 651 g = sgM_ring σ w0 w1 w2 w3 w4 w5 w6 g := aI_aI _ 651 _ _
theorem sgM_ring_rzI502 {σ : Sto} {w0 : Int32} {w1 : Int32} {w2 : Int32} {w3 : Int64} {w4 : Nat → Int32} {w5 : Nat → Int32} {w6 : Nat → Int32} {w7 : Nat → Int32} : (sgM_ring σ w0 w1 w2 w3 w4 w5 w6 w7).1 502 = w0 := rfl
theorem sgM_ring_rzI522 {σ : Sto} {w0 : Int32} {w1 : Int32} {w2 : Int32} {w3 : Int64} {w4 : Nat → Int32} {w5 : Nat → Int32} {w6 : Nat → Int32} {w7 : Nat → Int32} : (sgM_ring σ w0 w1 w2 w3 w4 w5 w6 w7).1 522 = σ.1 522 := rfl
theorem sgM_ring_rzI541 {σ : Sto} {w0 : Int32} {w1 : Int32} {w2 : Int32} {w3 : Int64} {w4 : Nat → Int32} {w5 : Nat → Int32} {w6 : Nat → Int32} {w7 : Nat → Int32} : (sgM_ring σ w0 w1 w2 w3 w4 w5 w6 w7).1 541 = σ.1 541 := rfl
theorem sgM_ring_rzI543 {σ : Sto} {w0 : Int32} {w1 : Int32} {w2 : Int32} {w3 : Int64} {w4 : Nat → Int32} {w5 : Nat → Int32} {w6 : Nat → Int32} {w7 : Nat → Int32} : (sgM_ring σ w0 w1 w2 w3 w4 w5 w6 w7).1 543 = σ.1 543 := rfl
theorem sgM_ring_rzI545 {σ : Sto} {w0 : Int32} {w1 : Int32} {w2 : Int32} {w3 : Int64} {w4 : Nat → Int32} {w5 : Nat → Int32} {w6 : Nat → Int32} {w7 : Nat → Int32} : (sgM_ring σ w0 w1 w2 w3 w4 w5 w6 w7).1 545 = w1 := rfl
theorem sgM_ring_rzI546 {σ : Sto} {w0 : Int32} {w1 : Int32} {w2 : Int32} {w3 : Int64} {w4 : Nat → Int32} {w5 : Nat → Int32} {w6 : Nat → Int32} {w7 : Nat → Int32} : (sgM_ring σ w0 w1 w2 w3 w4 w5 w6 w7).1 546 = w2 := rfl
theorem sgM_ring_rzL547 {σ : Sto} {w0 : Int32} {w1 : Int32} {w2 : Int32} {w3 : Int64} {w4 : Nat → Int32} {w5 : Nat → Int32} {w6 : Nat → Int32} {w7 : Nat → Int32} : (sgM_ring σ w0 w1 w2 w3 w4 w5 w6 w7).2.1 547 = w3 := rfl
theorem sgM_ring_raI611 {σ : Sto} {w0 : Int32} {w1 : Int32} {w2 : Int32} {w3 : Int64} {w4 : Nat → Int32} {w5 : Nat → Int32} {w6 : Nat → Int32} {w7 : Nat → Int32} : (sgM_ring σ w0 w1 w2 w3 w4 w5 w6 w7).2.2.1 611 = σ.2.2.1 611 := rfl
theorem sgM_ring_raI615 {σ : Sto} {w0 : Int32} {w1 : Int32} {w2 : Int32} {w3 : Int64} {w4 : Nat → Int32} {w5 : Nat → Int32} {w6 : Nat → Int32} {w7 : Nat → Int32} : (sgM_ring σ w0 w1 w2 w3 w4 w5 w6 w7).2.2.1 615 = σ.2.2.1 615 := rfl
theorem sgM_ring_raI618 {σ : Sto} {w0 : Int32} {w1 : Int32} {w2 : Int32} {w3 : Int64} {w4 : Nat → Int32} {w5 : Nat → Int32} {w6 : Nat → Int32} {w7 : Nat → Int32} : (sgM_ring σ w0 w1 w2 w3 w4 w5 w6 w7).2.2.1 618 = σ.2.2.1 618 := rfl
theorem sgM_ring_raI620 {σ : Sto} {w0 : Int32} {w1 : Int32} {w2 : Int32} {w3 : Int64} {w4 : Nat → Int32} {w5 : Nat → Int32} {w6 : Nat → Int32} {w7 : Nat → Int32} : (sgM_ring σ w0 w1 w2 w3 w4 w5 w6 w7).2.2.1 620 = σ.2.2.1 620 := rfl
theorem sgM_ring_raI621 {σ : Sto} {w0 : Int32} {w1 : Int32} {w2 : Int32} {w3 : Int64} {w4 : Nat → Int32} {w5 : Nat → Int32} {w6 : Nat → Int32} {w7 : Nat → Int32} : (sgM_ring σ w0 w1 w2 w3 w4 w5 w6 w7).2.2.1 621 = σ.2.2.1 621 := rfl
theorem sgM_ring_raI624 {σ : Sto} {w0 : Int32} {w1 : Int32} {w2 : Int32} {w3 : Int64} {w4 : Nat → Int32} {w5 : Nat → Int32} {w6 : Nat → Int32} {w7 : Nat → Int32} : (sgM_ring σ w0 w1 w2 w3 w4 w5 w6 w7).2.2.1 624 = σ.2.2.1 624 := rfl
theorem sgM_ring_raI629 {σ : Sto} {w0 : Int32} {w1 : Int32} {w2 : Int32} {w3 : Int64} {w4 : Nat → Int32} {w5 : Nat → Int32} {w6 : Nat → Int32} {w7 : Nat → Int32} : (sgM_ring σ w0 w1 w2 w3 w4 w5 w6 w7).2.2.1 629 = w4 := rfl
theorem sgM_ring_raI631 {σ : Sto} {w0 : Int32} {w1 : Int32} {w2 : Int32} {w3 : Int64} {w4 : Nat → Int32} {w5 : Nat → Int32} {w6 : Nat → Int32} {w7 : Nat → Int32} : (sgM_ring σ w0 w1 w2 w3 w4 w5 w6 w7).2.2.1 631 = σ.2.2.1 631 := rfl
theorem sgM_ring_raI640 {σ : Sto} {w0 : Int32} {w1 : Int32} {w2 : Int32} {w3 : Int64} {w4 : Nat → Int32} {w5 : Nat → Int32} {w6 : Nat → Int32} {w7 : Nat → Int32} : (sgM_ring σ w0 w1 w2 w3 w4 w5 w6 w7).2.2.1 640 = w5 := rfl
theorem sgM_ring_raI642 {σ : Sto} {w0 : Int32} {w1 : Int32} {w2 : Int32} {w3 : Int64} {w4 : Nat → Int32} {w5 : Nat → Int32} {w6 : Nat → Int32} {w7 : Nat → Int32} : (sgM_ring σ w0 w1 w2 w3 w4 w5 w6 w7).2.2.1 642 = σ.2.2.1 642 := rfl
theorem sgM_ring_raI644 {σ : Sto} {w0 : Int32} {w1 : Int32} {w2 : Int32} {w3 : Int64} {w4 : Nat → Int32} {w5 : Nat → Int32} {w6 : Nat → Int32} {w7 : Nat → Int32} : (sgM_ring σ w0 w1 w2 w3 w4 w5 w6 w7).2.2.1 644 = σ.2.2.1 644 := rfl
theorem sgM_ring_raI650 {σ : Sto} {w0 : Int32} {w1 : Int32} {w2 : Int32} {w3 : Int64} {w4 : Nat → Int32} {w5 : Nat → Int32} {w6 : Nat → Int32} {w7 : Nat → Int32} : (sgM_ring σ w0 w1 w2 w3 w4 w5 w6 w7).2.2.1 650 = w6 := rfl
theorem sgM_ring_raI651 {σ : Sto} {w0 : Int32} {w1 : Int32} {w2 : Int32} {w3 : Int64} {w4 : Nat → Int32} {w5 : Nat → Int32} {w6 : Nat → Int32} {w7 : Nat → Int32} : (sgM_ring σ w0 w1 w2 w3 w4 w5 w6 w7).2.2.1 651 = w7 := rfl
theorem sgM_ring_raL626 {σ : Sto} {w0 : Int32} {w1 : Int32} {w2 : Int32} {w3 : Int64} {w4 : Nat → Int32} {w5 : Nat → Int32} {w6 : Nat → Int32} {w7 : Nat → Int32} : (sgM_ring σ w0 w1 w2 w3 w4 w5 w6 w7).2.2.2.1 626 = σ.2.2.2.1 626 := rfl
abbrev rmM_ring : Room := { frames := 8, cells := 0, slots := 0, locals := 195 }
set_option maxHeartbeats 4000000 in
theorem wkM_ring {x1 : Int32} {r_ : Int32} {w_zI502 : Int32} {w_zI545 : Int32} {w_zI546 : Int32} {w_zL547 : Int64} {w_aI629 : Nat → Int32} {w_aI640 : Nat → Int32} {w_aI650 : Nat → Int32} {w_aI651 : Nat → Int32} (E : EN p s m args meth c0 RX16 cX16_ring 3 (Option.some Jvm.ClassFile.FieldType.int)) (hK : KK D clsA G s) (hA : ∀ q, PA dscM ad s.heap.size q → A q) (hf : mo_ring (σ.1 502) (σ.1 522) (σ.1 541) (σ.1 543) (σ.1 545) (σ.1 546) (σ.2.1 547) (σ.2.2.1 611) (σ.2.2.1 615) (σ.2.2.1 618) (σ.2.2.1 620) (σ.2.2.1 621) (σ.2.2.1 624) (σ.2.2.1 629) (σ.2.2.1 631) (σ.2.2.1 640) (σ.2.2.1 642) (σ.2.2.1 644) (σ.2.2.1 650) (σ.2.2.1 651) (σ.2.2.2.1 626) x1 = some (r_, w_zI502, w_zI545, w_zI546, w_zL547, w_aI629, w_aI640, w_aI650, w_aI651)) (hQ : Q = MQ below (va_Qi (fun x (_ : Unit) => x = r_) (fun _ t => PM D G ad (sgM_ring σ w_zI502 w_zI545 w_zI546 w_zL547 w_aI629 w_aI640 w_aI650 w_aI651) t.heap ∧ KK D clsA G t) A) args s 0 0 A) (hP : PM D G ad σ H) (hS : va_S A s.heap H locs) (hl : lv_has ls 3 [(0, .ref (ad 500)), (1, .int x1)]) : W p l e rmM_ring s m args below meth c0 H locs 0 0 Q (F0 m 0 ls []) := by
  obtain ⟨⟨hx, hb, hml, hown, hts⟩, hr, hlk⟩ := id E
  have hP := hP.to (sgM_ring_self σ).symm
  unfold mo_ring at hf
  refine lv_aload_n hx hb dX16_ring_0 rfl (lv_at hl 0 rfl) ?_
  refine lv_iconst hx hb dX16_ring_1 ic_0 ?_
  refine uM_2 E hK hP hS (hA _ (PA_c dM_500)) sgM_ring_zI502 dX16_ring_2 (fun H locs hP hS => ?_)
  refine lv_aload_n hx hb dX16_ring_5 rfl (lv_at hl 0 rfl) ?_
  obtain ⟨v1, u2, hf⟩ := bdP hf
  refine cM_hasEnds E hK hP hS hA sgM_ring_raI611 u2 ⟨Nat.le_of_ble_eq_true rfl, Nat.le_of_ble_eq_true rfl⟩ ⟨Nat.zero_le _, Nat.zero_le _⟩ hl.1 (Nat.le_of_ble_eq_true rfl) dX16_ring_6 (fun H locs hP hS => ?_)
  refine lv_if_eq (tgt := 16) hx hb dX16_ring_9 (by decide) (fun c3 => ?_) (fun c3 => ?_)
  · have hf := ifT c3 hf
    refine lv_iconst hx hb dX16_ring_16 ic_m1 ?_
    cases hf
    rw [hQ]; exact p_iret hx hb hr hlk hK hP hS dX16_ring_17
  · have hf := ifF c3 hf
    refine lv_iload_n hx hb dX16_ring_12 rfl (lv_at hl 1 rfl) ?_
    refine lv_if_ge (tgt := 18) hx hb dX16_ring_13 (by decide) (fun c4 => ?_) (fun c4 => ?_)
    · have hf := ifT c4 hf
      refine lv_iconst hx hb dX16_ring_18 ic_0 ?_
      refine lv_istore_n (lv' := [(2, .int 0), (0, .ref (ad 500)), (1, .int x1)]) hx hb dX16_ring_19 rfl hl (by decide) rfl (fun ls hl => ?_)
      have LP20 : ∀ (st20 : Int32 × Int32 × Int32 × Int64 × (Nat → Int32) × (Nat → Int32)) (ex20 : (Int32 × Int32 × Int32 × Int64 × (Nat → Int32) × (Nat → Int32)) ⊕ (Int32 × Int32 × Int64 × (Nat → Int32) × (Nat → Int32))), loop (mo_ring_L20 (σ.1 522) (σ.1 541) (σ.1 543) (σ.2.2.1 611) (σ.2.2.1 615) (σ.2.2.1 618) (σ.2.2.1 620) (σ.2.2.1 621) (σ.2.2.1 624) (σ.2.2.1 631) (σ.2.2.1 642) (σ.2.2.1 644) (σ.2.2.2.1 626)) st20 = some ex20 → ∀ (H : Heap) (locs : List Loc), PM D G ad (sgM_ring σ 0 (st20.2.1) (st20.2.2.1) (st20.2.2.2.1) (st20.2.2.2.2.1) (st20.2.2.2.2.2) (σ.2.2.1 650) (σ.2.2.1 651)) H → va_S A s.heap H locs → ∀ (ls : Array Slot), lv_has ls 3 [(0, .ref (ad 500)), (1, .int x1), (2, .int (st20.1))] → (∀ (y28 : Int32) (z29 : Int32) (z30 : Int32) (z31 : Int64) (a32 : Nat → Int32) (a33 : Nat → Int32), ex20 = (.inl ((y28, z29, z30, z31, a32, a33))) → ∀ (H : Heap) (locs : List Loc), PM D G ad (sgM_ring σ 0 z29 z30 z31 a32 a33 (σ.2.2.1 650) (σ.2.2.1 651)) H → va_S A s.heap H locs → ∀ (ls : Array Slot), lv_has ls 3 [(0, .ref (ad 500)), (1, .int x1), (2, .int y28)] → W p l e rmM_ring s m args below meth c0 H locs 0 0 Q (F0 m 51 ls [])) → (∀ (z34 : Int32) (z35 : Int32) (z36 : Int64) (a37 : Nat → Int32) (a38 : Nat → Int32), ex20 = (.inr (z34, z35, z36, a37, a38)) → ∀ (H : Heap) (locs : List Loc), PM D G ad (sgM_ring σ 0 z34 z35 z36 a37 a38 (σ.2.2.1 650) (σ.2.2.1 651)) H → va_S A s.heap H locs → ∀ (ls : Array Slot), lv_has ls 3 [] → W p l e rmM_ring s m args below meth c0 H locs 0 0 Q (F0 m 64 ls [])) → W p l e rmM_ring s m args below meth c0 H locs 0 0 Q (F0 m 20 ls []) := by
        refine loop_P (fun st20 ex20 o20 hf ih20 hx20 => ?_)
        obtain ⟨y5, z6, z7, z8, a9, a10⟩ := st20
        intro H locs (hP : PM D G ad (sgM_ring σ 0 z6 z7 z8 a9 a10 (σ.2.2.1 650) (σ.2.2.1 651)) H) hS ls (hl : lv_has ls 3 [(0, .ref (ad 500)), (1, .int x1), (2, .int y5)]) KE20_0 KE20_1
        dsimp only [mo_ring_L20] at hf
        refine lv_iload_n hx hb dX16_ring_20 rfl (lv_at hl 2 rfl) ?_
        refine lv_aload_n hx hb dX16_ring_21 rfl (lv_at hl 0 rfl) ?_
        refine gM_22 (v := (σ.1 522)) E hK hP sgM_ring_rzI522 dX16_ring_22 ?_
        refine lv_icmp_ge (tgt := 64) hx hb dX16_ring_25 (by decide) (fun c11 => ?_) (fun c11 => ?_)
        · have hf := ifT c11 hf
          exact KE20_1 _ _ _ _ _ (hx20 _ (Option.some.inj hf).symm).symm H locs hP hS ls (lv_sub hl [] rfl)
        · have hf := ifF c11 hf
          refine lv_aload_n hx hb dX16_ring_28 rfl (lv_at hl 0 rfl) ?_
          refine gM_26 E hK hP dX16_ring_29 ?_
          refine lv_iload_n hx hb dX16_ring_32 rfl (lv_at hl 2 rfl) ?_
          obtain ⟨v12, hv12, hf⟩ := bdP hf
          refine p_lald hx hb hK hP dM_626 sgM_ring_raL626 hv12 dX16_ring_33 ?_
          refine lv_lconst hx hb dX16_ring_34 lc_0 ?_
          refine W.lcmp hx hb dX16_ring_35 ?_
          have J58 : ∀ (z13 : Int32) (z14 : Int32) (z15 : Int64) (a16 : Nat → Int32) (a17 : Nat → Int32), mo_ring_J58 y5 z13 z14 z15 a16 a17 = some o20 → ∀ (H : Heap) (locs : List Loc), PM D G ad (sgM_ring σ 0 z13 z14 z15 a16 a17 (σ.2.2.1 650) (σ.2.2.1 651)) H → va_S A s.heap H locs → ∀ (ls : Array Slot), lv_has ls 3 [(0, .ref (ad 500)), (1, .int x1), (2, .int y5)] → W p l e rmM_ring s m args below meth c0 H locs 0 0 Q (F0 m 58 ls []) := by
            intro z13 z14 z15 a16 a17 hf H locs hP hS ls hl
            unfold mo_ring_J58 at hf
            obtain ⟨v18, hv18, hf⟩ := bdP hf
            refine lv_iinc (v := v18) (lv' := [(2, .int v18), (0, .ref (ad 500)), (1, .int x1)]) hx hb dX16_ring_58 hl (k := 2) rfl (Option.some.inj hv18) (by decide) rfl (fun ls hl => ?_)
            refine lv_goto (tgt := 20) hx hb dX16_ring_61 (by decide) ?_
            exact ih20 _ (Option.some.inj hf).symm H locs hP hS ls (lv_sub hl [1, 2, 0] rfl) KE20_0 KE20_1
          refine lv_if_le (tgt := 58) hx hb dX16_ring_36 (by decide) (fun c19 => ?_) (fun c19 => ?_)
          · have hf := ifT ((lgc_le _ _).mp c19) hf
            exact J58 z6 z7 z8 a9 a10 hf H locs hP hS ls (lv_sub hl [0, 1, 2] rfl)
          · have hf := ifF (mt (lgc_le _ _).mpr c19) hf
            refine lv_aload_n hx hb dX16_ring_39 rfl (lv_at hl 0 rfl) ?_
            refine lv_bipush hx hb dX16_ring_40 bp_6 ?_
            refine lv_iload_n hx hb dX16_ring_42 rfl (lv_at hl 2 rfl) ?_
            obtain ⟨⟨v20, z21, z22, z23, a24, a25⟩, u26, hf⟩ := bdP hf
            dsimp only at hf
            refine cM_hoursIn E hK hP hS hA sgM_ring_rzI541 sgM_ring_rzI543 sgM_ring_rzI545 sgM_ring_rzI546 sgM_ring_rzL547 sgM_ring_raI611 sgM_ring_raI615 sgM_ring_raI618 sgM_ring_raI620 sgM_ring_raI621 sgM_ring_raI624 sgM_ring_raI629 sgM_ring_raI631 sgM_ring_raI640 sgM_ring_raI642 sgM_ring_raI644 u26 ⟨Nat.le_of_ble_eq_true rfl, Nat.le_of_ble_eq_true rfl⟩ ⟨Nat.zero_le _, Nat.zero_le _⟩ hl.1 (Nat.le_of_ble_eq_true rfl) dX16_ring_43 (fun H locs hP hS => ?_)
            rw [sgM_ring_zI545, sgM_ring_zI546, sgM_ring_zL547, sgM_ring_aI629, sgM_ring_aI640] at hP
            refine lv_lconst hx hb dX16_ring_46 lc_0 ?_
            refine W.lcmp hx hb dX16_ring_47 ?_
            refine lv_if_ge (tgt := 58) hx hb dX16_ring_48 (by decide) (fun c27 => ?_) (fun c27 => ?_)
            · have hf := ifT ((lgc_ge _ _).mp c27) hf
              exact J58 z21 z22 z23 a24 a25 hf H locs hP hS ls (lv_sub hl [0, 1, 2] rfl)
            · have hf := ifF (mt (lgc_ge _ _).mpr c27) hf
              exact KE20_0 _ _ _ _ _ _ (hx20 _ (Option.some.inj hf).symm).symm H locs hP hS ls (lv_sub hl [0, 1, 2] rfl)
      obtain ⟨ex20, hlp20, hf⟩ := bdP hf
      refine LP20 (0, (σ.1 545), (σ.1 546), (σ.2.1 547), (σ.2.2.1 629), (σ.2.2.1 640)) ex20 hlp20 H locs hP hS ls (lv_sub hl [1, 2, 0] rfl) ?_ ?_
      · intro y28 z29 z30 z31 a32 a33 hex20 H locs hP hS ls hl
        subst ex20
        dsimp only [sE_l, sE_r] at hf
        refine lv_aload_n hx hb dX16_ring_51 rfl (lv_at hl 0 rfl) ?_
        refine lv_iload_n hx hb dX16_ring_52 rfl (lv_at hl 2 rfl) ?_
        refine lv_iload_n hx hb dX16_ring_53 rfl (lv_at hl 1 rfl) ?_
        obtain ⟨⟨v39, z40, z41, z42, a43, a44, a45, a46⟩, u47, hf⟩ := bdP hf
        dsimp only at hf
        refine cM_ringIn E hK hP hS hA sgM_ring_rzI541 sgM_ring_rzI543 sgM_ring_rzI545 sgM_ring_rzI546 sgM_ring_rzL547 sgM_ring_raI611 sgM_ring_raI615 sgM_ring_raI618 sgM_ring_raI620 sgM_ring_raI621 sgM_ring_raI624 sgM_ring_raI629 sgM_ring_raI631 sgM_ring_raI640 sgM_ring_raI642 sgM_ring_raI644 sgM_ring_raI650 sgM_ring_raI651 u47 ⟨Nat.le_of_ble_eq_true rfl, Nat.le_of_ble_eq_true rfl⟩ ⟨Nat.zero_le _, Nat.zero_le _⟩ hl.1 (Nat.le_of_ble_eq_true rfl) dX16_ring_54 (fun H locs hP hS => ?_)
        rw [sgM_ring_zI545, sgM_ring_zI546, sgM_ring_zL547, sgM_ring_aI629, sgM_ring_aI640, sgM_ring_aI650, sgM_ring_aI651] at hP
        cases hf
        rw [hQ]; exact p_iret hx hb hr hlk hK hP hS dX16_ring_57
      · intro z34 z35 z36 a37 a38 hex20 H locs hP hS ls hl
        subst ex20
        dsimp only [sE_l, sE_r] at hf
        refine lv_iconst hx hb dX16_ring_64 ic_m1 ?_
        cases hf
        rw [hQ]; exact p_iret hx hb hr hlk hK hP hS dX16_ring_65
    · have hf := ifF c4 hf
      refine lv_iconst hx hb dX16_ring_16 ic_m1 ?_
      cases hf
      rw [hQ]; exact p_iret hx hb hr hlk hK hP hS dX16_ring_17
theorem kM_ring (l : Launch) (D : va_G) (G : Nat → ClassId) (ad : Nat → Nat) (σ : Sto) {x1 : Int32} {r_ : Int32} {w_zI502 : Int32} {w_zI545 : Int32} {w_zI546 : Int32} {w_zL547 : Int64} {w_aI629 : Nat → Int32} {w_aI640 : Nat → Int32} {w_aI650 : Nat → Int32} {w_aI651 : Nat → Int32} (hf : mo_ring (σ.1 502) (σ.1 522) (σ.1 541) (σ.1 543) (σ.1 545) (σ.1 546) (σ.2.1 547) (σ.2.2.1 611) (σ.2.2.1 615) (σ.2.2.1 618) (σ.2.2.1 620) (σ.2.2.1 621) (σ.2.2.1 624) (σ.2.2.1 629) (σ.2.2.1 631) (σ.2.2.1 640) (σ.2.2.1 642) (σ.2.2.1 644) (σ.2.2.1 650) (σ.2.2.1 651) (σ.2.2.2.1 626) x1 = some (r_, w_zI502, w_zI545, w_zI546, w_zL547, w_aI629, w_aI640, w_aI650, w_aI651)) : CtI l D clsA G dscM ad yX16_ring (ws_ yX16_ring cX16_ring 3 (Option.some Jvm.ClassFile.FieldType.int)) rmM_ring [.ref (ad 500), .int x1] σ r_ (sgM_ring σ w_zI502 w_zI545 w_zI546 w_zL547 w_aI629 w_aI640 w_aI650 w_aI651) :=
  p_ctI (by decide +kernel) (Nat.le_of_ble_eq_true rfl) (fun p e s m below meth c0 ls A E hP hK hA hS hl => wkM_ring E hK hA hf rfl hP hS hl)
/-! comesInTime(III)I -/
abbrev rmM_comesInTime : Room := { frames := 1, cells := 0, slots := 0, locals := 22 }
set_option maxHeartbeats 4000000 in
theorem wkM_comesInTime {x1 : Int32} {x2 : Int32} {x3 : Int32} {r_ : Int32} (E : EN p s m args meth c0 RX16 cX16_comesInTime 10 (Option.some Jvm.ClassFile.FieldType.int)) (hK : KK D clsA G s) (hA : ∀ q, PA dscM ad s.heap.size q → A q) (hf : mo_comesInTime (σ.1 522) (σ.2.2.1 611) (σ.2.2.1 620) (σ.2.2.1 624) (σ.2.2.1 652) (σ.2.2.2.1 628) x1 x2 x3 = some r_) (hQ : Q = MQ below (va_Qi (fun x (_ : Unit) => x = r_) (fun _ t => PM D G ad σ t.heap ∧ KK D clsA G t) A) args s 0 0 A) (hP : PM D G ad σ H) (hS : va_S A s.heap H locs) (hl : lv_has ls 10 [(0, .ref (ad 500)), (1, .int x1), (2, .int x2), (3, .int x3)]) : W p l e rmM_comesInTime s m args below meth c0 H locs 0 0 Q (F0 m 0 ls []) := by
  obtain ⟨⟨hx, hb, hml, hown, hts⟩, hr, hlk⟩ := id E
  unfold mo_comesInTime at hf
  refine lv_iconst hx hb dX16_comesInTime_0 ic_0 ?_
  refine lv_istore (lv' := [(4, .int 0), (0, .ref (ad 500)), (1, .int x1), (2, .int x2), (3, .int x3)]) hx hb dX16_comesInTime_1 hl (by decide) rfl (fun ls hl => ?_)
  refine lv_iconst hx hb dX16_comesInTime_3 ic_0 ?_
  refine lv_istore (lv' := [(5, .int 0), (4, .int 0), (0, .ref (ad 500)), (1, .int x1), (2, .int x2), (3, .int x3)]) hx hb dX16_comesInTime_4 hl (by decide) rfl (fun ls hl => ?_)
  have LP6 : ∀ (st6 : Int32 × Int32) (ex6 : (Int32)), loop (mo_comesInTime_L6 (σ.1 522) (σ.2.2.1 611) (σ.2.2.1 620) (σ.2.2.1 624) (σ.2.2.1 652) (σ.2.2.2.1 628) x1 x2 x3) st6 = some ex6 → ∀ (H : Heap) (locs : List Loc), PM D G ad σ H → va_S A s.heap H locs → ∀ (ls : Array Slot), lv_has ls 10 [(0, .ref (ad 500)), (1, .int x1), (2, .int x2), (3, .int x3), (4, .int (st6.1)), (5, .int (st6.2))] → (∀ (y37 : Int32), ex6 = y37 → ∀ (H : Heap) (locs : List Loc), PM D G ad σ H → va_S A s.heap H locs → ∀ (ls : Array Slot), lv_has ls 10 [(4, .int y37)] → W p l e rmM_comesInTime s m args below meth c0 H locs 0 0 Q (F0 m 182 ls [])) → W p l e rmM_comesInTime s m args below meth c0 H locs 0 0 Q (F0 m 6 ls []) := by
    refine loop_P (fun st6 ex6 o6 hf ih6 hx6 => ?_)
    obtain ⟨y1, y2⟩ := st6
    intro H locs (hP : PM D G ad σ H) hS ls (hl : lv_has ls 10 [(0, .ref (ad 500)), (1, .int x1), (2, .int x2), (3, .int x3), (4, .int y1), (5, .int y2)]) KE6_0
    dsimp only [mo_comesInTime_L6] at hf
    refine lv_iload hx hb dX16_comesInTime_6 (lv_at hl 5 rfl) ?_
    refine lv_aload_n hx hb dX16_comesInTime_8 rfl (lv_at hl 0 rfl) ?_
    refine gM_22 (v := (σ.1 522)) E hK hP rfl dX16_comesInTime_9 ?_
    refine lv_icmp_ge (tgt := 182) hx hb dX16_comesInTime_12 (by decide) (fun c3 => ?_) (fun c3 => ?_)
    · have hf := ifT c3 hf
      exact KE6_0 _ (hx6 _ (Option.some.inj hf).symm).symm H locs hP hS ls (lv_sub hl [4] rfl)
    · have hf := ifF c3 hf
      refine lv_iload hx hb dX16_comesInTime_15 (lv_at hl 5 rfl) ?_
      refine lv_aload_n hx hb dX16_comesInTime_17 rfl (lv_at hl 0 rfl) ?_
      refine gM_20 E hK hP dX16_comesInTime_18 ?_
      refine lv_iload_n hx hb dX16_comesInTime_21 rfl (lv_at hl 1 rfl) ?_
      obtain ⟨v4, hv4, hf⟩ := bdP hf
      refine p_iald hx hb hK hP dM_620 rfl hv4 dX16_comesInTime_22 ?_
      refine lv_iconst hx hb dX16_comesInTime_23 ic_m1 ?_
      refine lv_ixor hx hb dX16_comesInTime_24 ?_
      refine lv_iand hx hb dX16_comesInTime_25 ?_
      have J176 : ∀ (y5 : Int32), mo_comesInTime_J176 y2 y5 = some o6 → ∀ (H : Heap) (locs : List Loc), PM D G ad σ H → va_S A s.heap H locs → ∀ (ls : Array Slot), lv_has ls 10 [(0, .ref (ad 500)), (1, .int x1), (2, .int x2), (3, .int x3), (4, .int y5), (5, .int y2)] → W p l e rmM_comesInTime s m args below meth c0 H locs 0 0 Q (F0 m 176 ls []) := by
        intro y5 hf H locs hP hS ls hl
        unfold mo_comesInTime_J176 at hf
        obtain ⟨v6, hv6, hf⟩ := bdP hf
        refine lv_iinc (v := v6) (lv' := [(5, .int v6), (0, .ref (ad 500)), (1, .int x1), (2, .int x2), (3, .int x3), (4, .int y5)]) hx hb dX16_comesInTime_176 hl (k := 5) rfl (Option.some.inj hv6) (by decide) rfl (fun ls hl => ?_)
        refine lv_goto (tgt := 6) hx hb dX16_comesInTime_179 (by decide) ?_
        exact ih6 _ (Option.some.inj hf).symm H locs hP hS ls (lv_sub hl [1, 2, 3, 4, 5, 0] rfl) KE6_0
      refine lv_if_eq (tgt := 32) hx hb dX16_comesInTime_26 (by decide) (fun c7 => ?_) (fun c7 => ?_)
      · have hf := ifT c7 hf
        refine lv_iload_n hx hb dX16_comesInTime_32 rfl (lv_at hl 2 rfl) ?_
        refine lv_istore (lv' := [(6, .int x2), (0, .ref (ad 500)), (1, .int x1), (2, .int x2), (3, .int x3), (4, .int y1), (5, .int y2)]) hx hb dX16_comesInTime_33 hl (by decide) rfl (fun ls hl => ?_)
        refine lv_iconst hx hb dX16_comesInTime_35 ic_1 ?_
        refine lv_istore (lv' := [(7, .int 1), (6, .int x2), (0, .ref (ad 500)), (1, .int x1), (2, .int x2), (3, .int x3), (4, .int y1), (5, .int y2)]) hx hb dX16_comesInTime_36 hl (by decide) rfl (fun ls hl => ?_)
        refine lv_iconst hx hb dX16_comesInTime_38 ic_0 ?_
        refine lv_istore (lv' := [(8, .int 0), (7, .int 1), (6, .int x2), (0, .ref (ad 500)), (1, .int x1), (2, .int x2), (3, .int x3), (4, .int y1), (5, .int y2)]) hx hb dX16_comesInTime_39 hl (by decide) rfl (fun ls hl => ?_)
        have LP41 : ∀ (st41 : Int32 × Int32 × Int32) (ex41 : (Int32 × Int32)), loop (mo_comesInTime_L41 (σ.2.2.1 611) (σ.2.2.1 620) (σ.2.2.1 624) x1 x2 y2) st41 = some ex41 → ∀ (H : Heap) (locs : List Loc), PM D G ad σ H → va_S A s.heap H locs → ∀ (ls : Array Slot), lv_has ls 10 [(0, .ref (ad 500)), (1, .int x1), (2, .int x2), (3, .int x3), (4, .int y1), (5, .int y2), (6, .int (st41.1)), (7, .int (st41.2.1)), (8, .int (st41.2.2))] → (∀ (y30 : Int32) (y31 : Int32), ex41 = (y30, y31) → ∀ (H : Heap) (locs : List Loc), PM D G ad σ H → va_S A s.heap H locs → ∀ (ls : Array Slot), lv_has ls 10 [(0, .ref (ad 500)), (1, .int x1), (2, .int x2), (3, .int x3), (4, .int y1), (5, .int y2), (6, .int y30), (7, .int y31)] → W p l e rmM_comesInTime s m args below meth c0 H locs 0 0 Q (F0 m 136 ls [])) → W p l e rmM_comesInTime s m args below meth c0 H locs 0 0 Q (F0 m 41 ls []) := by
          refine loop_P (fun st41 ex41 o41 hf ih41 hx41 => ?_)
          obtain ⟨y8, y9, y10⟩ := st41
          intro H locs (hP : PM D G ad σ H) hS ls (hl : lv_has ls 10 [(0, .ref (ad 500)), (1, .int x1), (2, .int x2), (3, .int x3), (4, .int y1), (5, .int y2), (6, .int y8), (7, .int y9), (8, .int y10)]) KE41_0
          dsimp only [mo_comesInTime_L41] at hf
          refine lv_iload hx hb dX16_comesInTime_41 (lv_at hl 8 rfl) ?_
          refine lv_aload_n hx hb dX16_comesInTime_43 rfl (lv_at hl 0 rfl) ?_
          obtain ⟨v11, u12, hf⟩ := bdP hf
          refine cM_doubts E hK hP hS hA rfl u12 ⟨Nat.le_of_ble_eq_true rfl, Nat.le_of_ble_eq_true rfl⟩ ⟨Nat.zero_le _, Nat.zero_le _⟩ hl.1 (Nat.le_of_ble_eq_true rfl) dX16_comesInTime_44 (fun H locs hP hS => ?_)
          refine lv_icmp_ge (tgt := 136) hx hb dX16_comesInTime_47 (by decide) (fun c13 => ?_) (fun c13 => ?_)
          · have hf := ifT c13 hf
            exact KE41_0 _ _ (hx41 _ (Option.some.inj hf).symm).symm H locs hP hS ls (lv_sub hl [0, 1, 2, 3, 4, 5, 6, 7] rfl)
          · have hf := ifF c13 hf
            refine lv_iload hx hb dX16_comesInTime_50 (lv_at hl 7 rfl) ?_
            refine lv_if_eq (tgt := 136) hx hb dX16_comesInTime_52 (by decide) (fun c14 => ?_) (fun c14 => ?_)
            · have hf := ifT c14 hf
              exact KE41_0 _ _ (hx41 _ (Option.some.inj hf).symm).symm H locs hP hS ls (lv_sub hl [0, 1, 2, 3, 4, 5, 6, 7] rfl)
            · have hf := ifF c14 hf
              refine lv_aload_n hx hb dX16_comesInTime_55 rfl (lv_at hl 0 rfl) ?_
              refine gM_20 E hK hP dX16_comesInTime_56 ?_
              refine lv_iload_n hx hb dX16_comesInTime_59 rfl (lv_at hl 1 rfl) ?_
              obtain ⟨v15, hv15, hf⟩ := bdP hf
              refine p_iald hx hb hK hP dM_620 rfl hv15 dX16_comesInTime_60 ?_
              refine lv_iload hx hb dX16_comesInTime_61 (lv_at hl 8 rfl) ?_
              refine lv_ishr hx hb dX16_comesInTime_63 ?_
              refine lv_iconst hx hb dX16_comesInTime_64 ic_1 ?_
              refine lv_iand hx hb dX16_comesInTime_65 ?_
              have J130 : ∀ (y16 : Int32) (y17 : Int32), mo_comesInTime_J130 y10 y16 y17 = some o41 → ∀ (H : Heap) (locs : List Loc), PM D G ad σ H → va_S A s.heap H locs → ∀ (ls : Array Slot), lv_has ls 10 [(0, .ref (ad 500)), (1, .int x1), (2, .int x2), (3, .int x3), (4, .int y1), (5, .int y2), (6, .int y16), (7, .int y17), (8, .int y10)] → W p l e rmM_comesInTime s m args below meth c0 H locs 0 0 Q (F0 m 130 ls []) := by
                intro y16 y17 hf H locs hP hS ls hl
                unfold mo_comesInTime_J130 at hf
                obtain ⟨v18, hv18, hf⟩ := bdP hf
                refine lv_iinc (v := v18) (lv' := [(8, .int v18), (0, .ref (ad 500)), (1, .int x1), (2, .int x2), (3, .int x3), (4, .int y1), (5, .int y2), (6, .int y16), (7, .int y17)]) hx hb dX16_comesInTime_130 hl (k := 8) rfl (Option.some.inj hv18) (by decide) rfl (fun ls hl => ?_)
                refine lv_goto (tgt := 41) hx hb dX16_comesInTime_133 (by decide) ?_
                exact ih41 _ (Option.some.inj hf).symm H locs hP hS ls (lv_sub hl [1, 2, 3, 4, 5, 6, 7, 8, 0] rfl) KE41_0
              refine lv_if_ne (tgt := 72) hx hb dX16_comesInTime_66 (by decide) (fun c19 => ?_) (fun c19 => ?_)
              · have hf := ifF c19 hf
                refine lv_iload hx hb dX16_comesInTime_72 (lv_at hl 5 rfl) ?_
                refine lv_iload hx hb dX16_comesInTime_74 (lv_at hl 8 rfl) ?_
                refine lv_ishr hx hb dX16_comesInTime_76 ?_
                refine lv_iconst hx hb dX16_comesInTime_77 ic_1 ?_
                refine lv_iand hx hb dX16_comesInTime_78 ?_
                refine lv_iconst hx hb dX16_comesInTime_79 ic_1 ?_
                refine lv_iadd hx hb dX16_comesInTime_80 ?_
                obtain ⟨v20, hv20, hf⟩ := bdP hf
                refine nm_i (Option.some.inj hv20) ?_
                refine lv_istore (lv' := [(9, .int v20), (0, .ref (ad 500)), (1, .int x1), (2, .int x2), (3, .int x3), (4, .int y1), (5, .int y2), (6, .int y8), (7, .int y9), (8, .int y10)]) hx hb dX16_comesInTime_81 hl (by decide) rfl (fun ls hl => ?_)
                refine lv_aload_n hx hb dX16_comesInTime_83 rfl (lv_at hl 1 rfl) ?_
                refine lv_iload_n hx hb dX16_comesInTime_84 rfl (lv_at hl 3 rfl) ?_
                refine lv_iload hx hb dX16_comesInTime_85 (lv_at hl 9 rfl) ?_
                obtain ⟨v21, u22, hf⟩ := bdP hf
                refine cM_digit E hK hP hS hA rfl u22 ⟨Nat.le_of_ble_eq_true rfl, Nat.le_of_ble_eq_true rfl⟩ ⟨Nat.zero_le _, Nat.zero_le _⟩ hl.1 (Nat.le_of_ble_eq_true rfl) dX16_comesInTime_87 (fun H locs hP hS => ?_)
                refine lv_if_ne (tgt := 111) hx hb dX16_comesInTime_90 (by decide) (fun c23 => ?_) (fun c23 => ?_)
                · have hf := ifF c23 hf
                  refine lv_aload_n hx hb dX16_comesInTime_111 rfl (lv_at hl 1 rfl) ?_
                  refine lv_iload_n hx hb dX16_comesInTime_112 rfl (lv_at hl 3 rfl) ?_
                  refine lv_iload hx hb dX16_comesInTime_113 (lv_at hl 9 rfl) ?_
                  obtain ⟨v24, u25, hf⟩ := bdP hf
                  refine cM_digit E hK hP hS hA rfl u25 ⟨Nat.le_of_ble_eq_true rfl, Nat.le_of_ble_eq_true rfl⟩ ⟨Nat.zero_le _, Nat.zero_le _⟩ hl.1 (Nat.le_of_ble_eq_true rfl) dX16_comesInTime_115 (fun H locs hP hS => ?_)
                  refine lv_iload hx hb dX16_comesInTime_118 (lv_at hl 0 rfl) ?_
                  have J128 : ∀ (k26 : Int32), mo_comesInTime_J128 y8 y10 k26 = some o41 → ∀ (H : Heap) (locs : List Loc), PM D G ad σ H → va_S A s.heap H locs → ∀ (ls : Array Slot), lv_has ls 10 [(0, .ref (ad 500)), (1, .int x1), (2, .int x2), (3, .int x3), (4, .int y1), (5, .int y2), (6, .int y8), (8, .int y10)] → W p l e rmM_comesInTime s m args below meth c0 H locs 0 0 Q (F0 m 128 ls [.int k26]) := by
                    intro k26 hf H locs hP hS ls hl
                    unfold mo_comesInTime_J128 at hf
                    refine lv_istore (lv' := [(7, .int k26), (0, .ref (ad 500)), (1, .int x1), (2, .int x2), (3, .int x3), (4, .int y1), (5, .int y2), (6, .int y8), (8, .int y10)]) hx hb dX16_comesInTime_128 hl (by decide) rfl (fun ls hl => ?_)
                    exact J130 y8 k26 hf H locs hP hS ls (lv_sub hl [1, 2, 3, 4, 5, 6, 7, 0, 8] rfl)
                  refine lv_icmp_ne (tgt := 127) hx hb dX16_comesInTime_120 (by decide) (fun c27 => ?_) (fun c27 => ?_)
                  · have hf := ifF c27 hf
                    refine lv_iconst hx hb dX16_comesInTime_127 ic_0 ?_
                    exact J128 0 hf H locs hP hS ls (lv_sub hl [1, 2, 3, 4, 5, 6, 7, 9] rfl)
                  · have hf := ifT c27 hf
                    refine lv_iconst hx hb dX16_comesInTime_123 ic_1 ?_
                    refine lv_goto (tgt := 128) hx hb dX16_comesInTime_124 (by decide) ?_
                    exact J128 1 hf H locs hP hS ls (lv_sub hl [1, 2, 3, 4, 5, 6, 7, 9] rfl)
                · have hf := ifT c23 hf
                  refine lv_iload hx hb dX16_comesInTime_93 (lv_at hl 7 rfl) ?_
                  refine lv_iload hx hb dX16_comesInTime_95 (lv_at hl 0 rfl) ?_
                  refine lv_aload_n hx hb dX16_comesInTime_97 rfl (lv_at hl 1 rfl) ?_
                  refine gM_24 E hK hP dX16_comesInTime_98 ?_
                  refine lv_iload hx hb dX16_comesInTime_101 (lv_at hl 9 rfl) ?_
                  obtain ⟨v28, hv28, hf⟩ := bdP hf
                  refine p_iald hx hb hK hP dM_624 rfl hv28 dX16_comesInTime_103 ?_
                  refine lv_imul hx hb dX16_comesInTime_104 ?_
                  refine lv_iadd hx hb dX16_comesInTime_105 ?_
                  obtain ⟨v29, hv29, hf⟩ := bdP hf
                  refine nm_i (Option.some.inj hv29) ?_
                  refine lv_istore (lv' := [(6, .int v29), (9, .int v20), (0, .ref (ad 500)), (1, .int x1), (2, .int x2), (3, .int x3), (4, .int y1), (5, .int y2), (7, .int y9), (8, .int y10)]) hx hb dX16_comesInTime_106 hl (by decide) rfl (fun ls hl => ?_)
                  refine lv_goto (tgt := 130) hx hb dX16_comesInTime_108 (by decide) ?_
                  exact J130 v29 y9 hf H locs hP hS ls (lv_sub hl [2, 3, 4, 5, 6, 7, 0, 8, 9] rfl)
              · have hf := ifT c19 hf
                refine lv_goto (tgt := 130) hx hb dX16_comesInTime_69 (by decide) ?_
                exact J130 y8 y9 hf H locs hP hS ls (lv_sub hl [0, 1, 2, 3, 4, 5, 6, 7, 8] rfl)
        obtain ⟨ex41, hlp41, hf⟩ := bdP hf
        refine LP41 (x2, 1, 0) ex41 hlp41 H locs hP hS ls (lv_sub hl [3, 4, 5, 6, 7, 8, 2, 1, 0] rfl) ?_
        intro y30 y31 hex41 H locs hP hS ls hl
        subst ex41
        dsimp only at hf
        refine lv_iload hx hb dX16_comesInTime_136 (lv_at hl 7 rfl) ?_
        refine lv_if_eq (tgt := 176) hx hb dX16_comesInTime_138 (by decide) (fun c32 => ?_) (fun c32 => ?_)
        · have hf := ifT c32 hf
          exact J176 y1 hf H locs hP hS ls (lv_sub hl [0, 1, 2, 3, 4, 5] rfl)
        · have hf := ifF c32 hf
          refine lv_aload_n hx hb dX16_comesInTime_141 rfl (lv_at hl 0 rfl) ?_
          refine gM_28 E hK hP dX16_comesInTime_142 ?_
          refine lv_iload hx hb dX16_comesInTime_145 (lv_at hl 6 rfl) ?_
          obtain ⟨v33, hv33, hf⟩ := bdP hf
          refine p_lald hx hb hK hP dM_628 rfl hv33 dX16_comesInTime_147 ?_
          refine lv_lconst hx hb dX16_comesInTime_148 lc_0 ?_
          refine W.lcmp hx hb dX16_comesInTime_149 ?_
          refine lv_if_le (tgt := 176) hx hb dX16_comesInTime_150 (by decide) (fun c34 => ?_) (fun c34 => ?_)
          · have hf := ifT ((lgc_le _ _).mp c34) hf
            exact J176 y1 hf H locs hP hS ls (lv_sub hl [0, 1, 2, 3, 4, 5] rfl)
          · have hf := ifF (mt (lgc_le _ _).mpr c34) hf
            refine lv_iload hx hb dX16_comesInTime_153 (lv_at hl 4 rfl) ?_
            refine lv_aload_n hx hb dX16_comesInTime_155 rfl (lv_at hl 0 rfl) ?_
            refine gM_52 E hK hP dX16_comesInTime_156 ?_
            refine lv_sipush hx hb dX16_comesInTime_159 sp_7290 ?_
            refine lv_iload_n hx hb dX16_comesInTime_162 rfl (lv_at hl 3 rfl) ?_
            refine lv_imul hx hb dX16_comesInTime_163 ?_
            refine lv_bipush hx hb dX16_comesInTime_164 bp_10 ?_
            refine lv_iload hx hb dX16_comesInTime_166 (lv_at hl 6 rfl) ?_
            refine lv_imul hx hb dX16_comesInTime_168 ?_
            refine lv_iadd hx hb dX16_comesInTime_169 ?_
            refine lv_iload_n hx hb dX16_comesInTime_170 rfl (lv_at hl 1 rfl) ?_
            refine lv_iadd hx hb dX16_comesInTime_171 ?_
            obtain ⟨v35, hv35, hf⟩ := bdP hf
            refine p_iald hx hb hK hP dM_652 rfl hv35 dX16_comesInTime_172 ?_
            refine lv_iadd hx hb dX16_comesInTime_173 ?_
            obtain ⟨v36, hv36, hf⟩ := bdP hf
            refine nm_i (Option.some.inj hv36) ?_
            refine lv_istore (lv' := [(4, .int v36), (0, .ref (ad 500)), (1, .int x1), (2, .int x2), (3, .int x3), (5, .int y2), (6, .int y30), (7, .int y31)]) hx hb dX16_comesInTime_174 hl (by decide) rfl (fun ls hl => ?_)
            exact J176 v36 hf H locs hP hS ls (lv_sub hl [1, 2, 3, 4, 0, 5] rfl)
      · have hf := ifF c7 hf
        refine lv_goto (tgt := 176) hx hb dX16_comesInTime_29 (by decide) ?_
        exact J176 y1 hf H locs hP hS ls (lv_sub hl [0, 1, 2, 3, 4, 5] rfl)
  obtain ⟨ex6, hlp6, hf⟩ := bdP hf
  refine LP6 (0, 0) ex6 hlp6 H locs hP hS ls (lv_sub hl [2, 3, 4, 5, 1, 0] rfl) ?_
  intro y37 hex6 H locs hP hS ls hl
  subst ex6
  refine lv_iload hx hb dX16_comesInTime_182 (lv_at hl 0 rfl) ?_
  cases hf
  rw [hQ]; exact p_iret hx hb hr hlk hK hP hS dX16_comesInTime_184
theorem kM_comesInTime (l : Launch) (D : va_G) (G : Nat → ClassId) (ad : Nat → Nat) (σ : Sto) {x1 : Int32} {x2 : Int32} {x3 : Int32} {r_ : Int32} (hf : mo_comesInTime (σ.1 522) (σ.2.2.1 611) (σ.2.2.1 620) (σ.2.2.1 624) (σ.2.2.1 652) (σ.2.2.2.1 628) x1 x2 x3 = some r_) : CtI l D clsA G dscM ad yX16_comesInTime (ws_ yX16_comesInTime cX16_comesInTime 10 (Option.some Jvm.ClassFile.FieldType.int)) rmM_comesInTime [.ref (ad 500), .int x1, .int x2, .int x3] σ r_ σ :=
  p_ctI (by decide +kernel) (Nat.le_of_ble_eq_true rfl) (fun p e s m below meth c0 ls A E hP hK hA hS hl => wkM_comesInTime E hK hA hf rfl hP hS hl)
theorem cM_comesInTime (E : EN p s m args meth c0 RX16 cc nL ret) (hK : KK D clsA G s) (hP : PM D G ad σ H) (hS : va_S A s.heap H locs) (hA : ∀ q, PA dscM ad s.heap.size q → A q) {x1 : Int32} {x2 : Int32} {x3 : Int32} {r_ : Int32} {z_worlds : Int32} (e_zI522 : σ.1 522 = z_worlds) {a_many : Nat → Int32} (e_aI611 : σ.2.2.1 611 = a_many) {a_seen : Nat → Int32} (e_aI620 : σ.2.2.1 620 = a_seen) {a_three : Nat → Int32} (e_aI624 : σ.2.2.1 624 = a_three) {a_inTime : Nat → Int32} (e_aI652 : σ.2.2.1 652 = a_inTime) {a_likely : Nat → Int64} (e_aL628 : σ.2.2.2.1 628 = a_likely) (hu : mo_comesInTime z_worlds a_many a_seen a_three a_inTime a_likely x1 x2 x3 = some r_) (hR : rmM_comesInTime.frames + 1 ≤ R.frames ∧ 8 + (10 + 11) + rmM_comesInTime.locals ≤ R.locals) (hcs : cells ≤ R.cells ∧ slots ≤ R.slots) (hsz : ls.size = nL) (hW : (rest.map fun v => v.category).sum ≤ 8) (hdg : decode cc pc = .ok (.invokevirtual 451, 3)) (kk : ∀ (H1 : Heap) (locs1 : List Loc), PM D G ad σ H1 → va_S A s.heap H1 locs1 → W p l e R s m args below meth c0 H1 locs1 cells slots Q (F0 m (pc + 3) ls (.int r_ :: rest))) : W p l e R s m args below meth c0 H locs cells slots Q (F0 m pc ls (.int x3 :: .int x2 :: .int x1 :: .ref (ad 500) :: rest)) := by
  subst e_zI522
  subst e_aI611
  subst e_aI620
  subst e_aI624
  subst e_aI652
  subst e_aL628
  exact p_callI (As := [.int x1, .int x2, .int x3]) (rest := rest) E.1 hK hP hS hA (kM_comesInTime l D G ad σ hu) (cwV 3 E.1.2.2.2.2 (lw_V q2217 q2219 qs119 q142 q2220) rfl rfl rfl (by decide +kernel) hR) dM_500 rfl rfl rfl hsz rfl hW hdg hcs kk
/-! bestInTime(III)I -/
abbrev rmM_bestInTime : Room := { frames := 2, cells := 0, slots := 0, locals := 51 }
set_option maxHeartbeats 4000000 in
theorem wkM_bestInTime {x1 : Int32} {x2 : Int32} {x3 : Int32} {r_ : Int32} (E : EN p s m args meth c0 RX16 cX16_bestInTime 9 (Option.some Jvm.ClassFile.FieldType.int)) (hK : KK D clsA G s) (hA : ∀ q, PA dscM ad s.heap.size q → A q) (hf : mo_bestInTime (σ.1 522) (σ.2.2.1 611) (σ.2.2.1 615) (σ.2.2.1 618) (σ.2.2.1 620) (σ.2.2.1 621) (σ.2.2.1 624) (σ.2.2.1 652) (σ.2.2.2.1 628) x1 x2 x3 = some r_) (hQ : Q = MQ below (va_Qi (fun x (_ : Unit) => x = r_) (fun _ t => PM D G ad σ t.heap ∧ KK D clsA G t) A) args s 0 0 A) (hP : PM D G ad σ H) (hS : va_S A s.heap H locs) (hl : lv_has ls 9 [(0, .ref (ad 500)), (1, .int x1), (2, .int x2), (3, .int x3)]) : W p l e rmM_bestInTime s m args below meth c0 H locs 0 0 Q (F0 m 0 ls []) := by
  obtain ⟨⟨hx, hb, hml, hown, hts⟩, hr, hlk⟩ := id E
  unfold mo_bestInTime at hf
  refine lv_iconst hx hb dX16_bestInTime_0 ic_0 ?_
  refine lv_istore (lv' := [(4, .int 0), (0, .ref (ad 500)), (1, .int x1), (2, .int x2), (3, .int x3)]) hx hb dX16_bestInTime_1 hl (by decide) rfl (fun ls hl => ?_)
  refine lv_iconst hx hb dX16_bestInTime_3 ic_0 ?_
  refine lv_istore (lv' := [(5, .int 0), (4, .int 0), (0, .ref (ad 500)), (1, .int x1), (2, .int x2), (3, .int x3)]) hx hb dX16_bestInTime_4 hl (by decide) rfl (fun ls hl => ?_)
  have LP6 : ∀ (st6 : Int32 × Int32) (ex6 : (Int32)), loop (mo_bestInTime_L6 (σ.1 522) (σ.2.2.1 611) (σ.2.2.1 615) (σ.2.2.1 620) (σ.2.2.1 621) (σ.2.2.1 624) (σ.2.2.1 652) (σ.2.2.2.1 628) x1 x2 x3) st6 = some ex6 → ∀ (H : Heap) (locs : List Loc), PM D G ad σ H → va_S A s.heap H locs → ∀ (ls : Array Slot), lv_has ls 9 [(0, .ref (ad 500)), (1, .int x1), (2, .int x2), (3, .int x3), (4, .int (st6.1)), (5, .int (st6.2))] → (∀ (y19 : Int32), ex6 = y19 → ∀ (H : Heap) (locs : List Loc), PM D G ad σ H → va_S A s.heap H locs → ∀ (ls : Array Slot), lv_has ls 9 [(0, .ref (ad 500)), (1, .int x1), (2, .int x2), (3, .int x3), (4, .int y19)] → W p l e rmM_bestInTime s m args below meth c0 H locs 0 0 Q (F0 m 96 ls [])) → W p l e rmM_bestInTime s m args below meth c0 H locs 0 0 Q (F0 m 6 ls []) := by
    refine loop_P (fun st6 ex6 o6 hf ih6 hx6 => ?_)
    obtain ⟨y1, y2⟩ := st6
    intro H locs (hP : PM D G ad σ H) hS ls (hl : lv_has ls 9 [(0, .ref (ad 500)), (1, .int x1), (2, .int x2), (3, .int x3), (4, .int y1), (5, .int y2)]) KE6_0
    dsimp only [mo_bestInTime_L6] at hf
    refine lv_iload hx hb dX16_bestInTime_6 (lv_at hl 5 rfl) ?_
    refine lv_aload_n hx hb dX16_bestInTime_8 rfl (lv_at hl 0 rfl) ?_
    obtain ⟨v3, u4, hf⟩ := bdP hf
    refine cM_places E hK hP hS hA rfl u4 ⟨Nat.le_of_ble_eq_true rfl, Nat.le_of_ble_eq_true rfl⟩ ⟨Nat.zero_le _, Nat.zero_le _⟩ hl.1 (Nat.le_of_ble_eq_true rfl) dX16_bestInTime_9 (fun H locs hP hS => ?_)
    refine lv_icmp_ge (tgt := 96) hx hb dX16_bestInTime_12 (by decide) (fun c5 => ?_) (fun c5 => ?_)
    · have hf := ifT c5 hf
      exact KE6_0 _ (hx6 _ (Option.some.inj hf).symm).symm H locs hP hS ls (lv_sub hl [0, 1, 2, 3, 4] rfl)
    · have hf := ifF c5 hf
      refine lv_aload_n hx hb dX16_bestInTime_15 rfl (lv_at hl 0 rfl) ?_
      refine gM_21 E hK hP dX16_bestInTime_16 ?_
      refine lv_bipush hx hb dX16_bestInTime_19 bp_10 ?_
      refine lv_iload_n hx hb dX16_bestInTime_21 rfl (lv_at hl 1 rfl) ?_
      refine lv_imul hx hb dX16_bestInTime_22 ?_
      refine lv_iload hx hb dX16_bestInTime_23 (lv_at hl 5 rfl) ?_
      refine lv_iadd hx hb dX16_bestInTime_25 ?_
      obtain ⟨v6, hv6, hf⟩ := bdP hf
      refine p_iald hx hb hK hP dM_621 rfl hv6 dX16_bestInTime_26 ?_
      refine lv_istore (lv' := [(6, .int v6), (0, .ref (ad 500)), (1, .int x1), (2, .int x2), (3, .int x3), (4, .int y1), (5, .int y2)]) hx hb dX16_bestInTime_27 hl (by decide) rfl (fun ls hl => ?_)
      refine lv_iload hx hb dX16_bestInTime_29 (lv_at hl 0 rfl) ?_
      have J45 : ∀ (k7 : Int32), mo_bestInTime_J45 (σ.1 522) (σ.2.2.1 611) (σ.2.2.1 620) (σ.2.2.1 624) (σ.2.2.1 652) (σ.2.2.2.1 628) y1 x2 y2 x3 k7 = some o6 → ∀ (H : Heap) (locs : List Loc), PM D G ad σ H → va_S A s.heap H locs → ∀ (ls : Array Slot), lv_has ls 9 [(0, .ref (ad 500)), (1, .int x1), (2, .int x2), (3, .int x3), (4, .int y1), (5, .int y2)] → W p l e rmM_bestInTime s m args below meth c0 H locs 0 0 Q (F0 m 45 ls [.int k7]) := by
        intro k7 hf H locs hP hS ls hl
        unfold mo_bestInTime_J45 at hf
        refine lv_istore (lv' := [(7, .int k7), (0, .ref (ad 500)), (1, .int x1), (2, .int x2), (3, .int x3), (4, .int y1), (5, .int y2)]) hx hb dX16_bestInTime_45 hl (by decide) rfl (fun ls hl => ?_)
        refine lv_iload hx hb dX16_bestInTime_47 (lv_at hl 0 rfl) ?_
        have J90 : ∀ (y8 : Int32), mo_bestInTime_J90 y2 y8 = some o6 → ∀ (H : Heap) (locs : List Loc), PM D G ad σ H → va_S A s.heap H locs → ∀ (ls : Array Slot), lv_has ls 9 [(0, .ref (ad 500)), (1, .int x1), (2, .int x2), (3, .int x3), (4, .int y8), (5, .int y2)] → W p l e rmM_bestInTime s m args below meth c0 H locs 0 0 Q (F0 m 90 ls []) := by
          intro y8 hf H locs hP hS ls hl
          unfold mo_bestInTime_J90 at hf
          obtain ⟨v9, hv9, hf⟩ := bdP hf
          refine lv_iinc (v := v9) (lv' := [(5, .int v9), (0, .ref (ad 500)), (1, .int x1), (2, .int x2), (3, .int x3), (4, .int y8)]) hx hb dX16_bestInTime_90 hl (k := 5) rfl (Option.some.inj hv9) (by decide) rfl (fun ls hl => ?_)
          refine lv_goto (tgt := 6) hx hb dX16_bestInTime_93 (by decide) ?_
          exact ih6 _ (Option.some.inj hf).symm H locs hP hS ls (lv_sub hl [1, 2, 3, 4, 5, 0] rfl) KE6_0
        refine lv_if_lt (tgt := 90) hx hb dX16_bestInTime_49 (by decide) (fun c10 => ?_) (fun c10 => ?_)
        · have hf := ifT c10 hf
          exact J90 y1 hf H locs hP hS ls (lv_sub hl [1, 2, 3, 4, 5, 6] rfl)
        · have hf := ifF c10 hf
          refine lv_iload hx hb dX16_bestInTime_52 (lv_at hl 0 rfl) ?_
          refine lv_iload_n hx hb dX16_bestInTime_54 rfl (lv_at hl 4 rfl) ?_
          refine lv_icmp_le (tgt := 61) hx hb dX16_bestInTime_55 (by decide) (fun c11 => ?_) (fun c11 => ?_)
          · have hf := ifT c11 hf
            refine lv_aload_n hx hb dX16_bestInTime_61 rfl (lv_at hl 1 rfl) ?_
            refine lv_iload hx hb dX16_bestInTime_62 (lv_at hl 6 rfl) ?_
            refine lv_iload_n hx hb dX16_bestInTime_64 rfl (lv_at hl 3 rfl) ?_
            refine lv_iload_n hx hb dX16_bestInTime_65 rfl (lv_at hl 4 rfl) ?_
            refine lv_iload hx hb dX16_bestInTime_66 (lv_at hl 0 rfl) ?_
            refine lv_isub hx hb dX16_bestInTime_68 ?_
            obtain ⟨v12, u13, hf⟩ := bdP hf
            refine cM_comesInTime E hK hP hS hA rfl rfl rfl rfl rfl rfl u13 ⟨Nat.le_of_ble_eq_true rfl, Nat.le_of_ble_eq_true rfl⟩ ⟨Nat.zero_le _, Nat.zero_le _⟩ hl.1 (Nat.le_of_ble_eq_true rfl) dX16_bestInTime_69 (fun H locs hP hS => ?_)
            refine lv_istore (lv' := [(8, .int v12), (7, .int k7), (0, .ref (ad 500)), (1, .int x1), (2, .int x2), (3, .int x3), (4, .int y1), (5, .int y2)]) hx hb dX16_bestInTime_72 hl (by decide) rfl (fun ls hl => ?_)
            refine lv_iload hx hb dX16_bestInTime_74 (lv_at hl 0 rfl) ?_
            refine lv_iload hx hb dX16_bestInTime_76 (lv_at hl 6 rfl) ?_
            have J88 : ∀ (k14 : Int32), mo_bestInTime_J88 y2 k14 = some o6 → ∀ (H : Heap) (locs : List Loc), PM D G ad σ H → va_S A s.heap H locs → ∀ (ls : Array Slot), lv_has ls 9 [(0, .ref (ad 500)), (1, .int x1), (2, .int x2), (3, .int x3), (5, .int y2)] → W p l e rmM_bestInTime s m args below meth c0 H locs 0 0 Q (F0 m 88 ls [.int k14]) := by
              intro k14 hf H locs hP hS ls hl
              unfold mo_bestInTime_J88 at hf
              refine lv_istore (lv' := [(4, .int k14), (0, .ref (ad 500)), (1, .int x1), (2, .int x2), (3, .int x3), (5, .int y2)]) hx hb dX16_bestInTime_88 hl (by decide) rfl (fun ls hl => ?_)
              exact J90 k14 hf H locs hP hS ls (lv_sub hl [1, 2, 3, 4, 0, 5] rfl)
            refine lv_icmp_le (tgt := 86) hx hb dX16_bestInTime_78 (by decide) (fun c15 => ?_) (fun c15 => ?_)
            · have hf := ifT c15 hf
              refine lv_iload hx hb dX16_bestInTime_86 (lv_at hl 6 rfl) ?_
              exact J88 y1 hf H locs hP hS ls (lv_sub hl [2, 3, 4, 5, 7] rfl)
            · have hf := ifF c15 hf
              refine lv_iload hx hb dX16_bestInTime_81 (lv_at hl 0 rfl) ?_
              refine lv_goto (tgt := 88) hx hb dX16_bestInTime_83 (by decide) ?_
              exact J88 v12 hf H locs hP hS ls (lv_sub hl [2, 3, 4, 5, 7] rfl)
          · have hf := ifF c11 hf
            refine lv_goto (tgt := 90) hx hb dX16_bestInTime_58 (by decide) ?_
            exact J90 y1 hf H locs hP hS ls (lv_sub hl [1, 2, 3, 4, 5, 6] rfl)
      refine lv_if_ge (tgt := 38) hx hb dX16_bestInTime_31 (by decide) (fun c16 => ?_) (fun c16 => ?_)
      · have hf := ifT c16 hf
        refine lv_aload_n hx hb dX16_bestInTime_38 rfl (lv_at hl 1 rfl) ?_
        refine lv_iload hx hb dX16_bestInTime_39 (lv_at hl 0 rfl) ?_
        refine lv_iload_n hx hb dX16_bestInTime_41 rfl (lv_at hl 3 rfl) ?_
        obtain ⟨v17, u18, hf⟩ := bdP hf
        refine cM_hoursOf E hK hP hS hA rfl rfl u18 ⟨Nat.le_of_ble_eq_true rfl, Nat.le_of_ble_eq_true rfl⟩ ⟨Nat.zero_le _, Nat.zero_le _⟩ hl.1 (Nat.le_of_ble_eq_true rfl) dX16_bestInTime_42 (fun H locs hP hS => ?_)
        exact J45 v17 hf H locs hP hS ls (lv_sub hl [1, 2, 3, 4, 5, 6] rfl)
      · have hf := ifF c16 hf
        refine lv_iconst hx hb dX16_bestInTime_34 ic_m1 ?_
        refine lv_goto (tgt := 45) hx hb dX16_bestInTime_35 (by decide) ?_
        exact J45 (-1) hf H locs hP hS ls (lv_sub hl [1, 2, 3, 4, 5, 6] rfl)
  obtain ⟨ex6, hlp6, hf⟩ := bdP hf
  refine LP6 (0, 0) ex6 hlp6 H locs hP hS ls (lv_sub hl [2, 3, 4, 5, 1, 0] rfl) ?_
  intro y19 hex6 H locs hP hS ls hl
  subst ex6
  refine lv_iconst hx hb dX16_bestInTime_96 ic_0 ?_
  refine lv_istore (lv' := [(5, .int 0), (0, .ref (ad 500)), (1, .int x1), (2, .int x2), (3, .int x3), (4, .int y19)]) hx hb dX16_bestInTime_97 hl (by decide) rfl (fun ls hl => ?_)
  have LP99 : ∀ (st99 : Int32 × Int32) (ex99 : (Int32)), loop (mo_bestInTime_L99 (σ.2.2.1 611) (σ.2.2.1 618) (σ.2.2.1 624) (σ.2.2.1 652) (σ.2.2.2.1 628) x1 x2 x3) st99 = some ex99 → ∀ (H : Heap) (locs : List Loc), PM D G ad σ H → va_S A s.heap H locs → ∀ (ls : Array Slot), lv_has ls 9 [(0, .ref (ad 500)), (1, .int x1), (2, .int x2), (3, .int x3), (4, .int (st99.1)), (5, .int (st99.2))] → (∀ (y47 : Int32), ex99 = y47 → ∀ (H : Heap) (locs : List Loc), PM D G ad σ H → va_S A s.heap H locs → ∀ (ls : Array Slot), lv_has ls 9 [(4, .int y47)] → W p l e rmM_bestInTime s m args below meth c0 H locs 0 0 Q (F0 m 249 ls [])) → W p l e rmM_bestInTime s m args below meth c0 H locs 0 0 Q (F0 m 99 ls []) := by
    refine loop_P (fun st99 ex99 o99 hf ih99 hx99 => ?_)
    obtain ⟨y20, y21⟩ := st99
    intro H locs (hP : PM D G ad σ H) hS ls (hl : lv_has ls 9 [(0, .ref (ad 500)), (1, .int x1), (2, .int x2), (3, .int x3), (4, .int y20), (5, .int y21)]) KE99_0
    dsimp only [mo_bestInTime_L99] at hf
    refine lv_iload hx hb dX16_bestInTime_99 (lv_at hl 5 rfl) ?_
    refine lv_aload_n hx hb dX16_bestInTime_101 rfl (lv_at hl 0 rfl) ?_
    refine gM_11 E hK hP dX16_bestInTime_102 ?_
    refine lv_iconst hx hb dX16_bestInTime_105 ic_5 ?_
    obtain ⟨v22, hv22, hf⟩ := bdP hf
    refine p_iald hx hb hK hP dM_611 rfl hv22 dX16_bestInTime_106 ?_
    refine lv_icmp_ge (tgt := 249) hx hb dX16_bestInTime_107 (by decide) (fun c23 => ?_) (fun c23 => ?_)
    · have hf := ifT c23 hf
      exact KE99_0 _ (hx99 _ (Option.some.inj hf).symm).symm H locs hP hS ls (lv_sub hl [4] rfl)
    · have hf := ifF c23 hf
      refine lv_aload_n hx hb dX16_bestInTime_110 rfl (lv_at hl 0 rfl) ?_
      refine lv_iload hx hb dX16_bestInTime_111 (lv_at hl 5 rfl) ?_
      refine lv_iload_n hx hb dX16_bestInTime_113 rfl (lv_at hl 1 rfl) ?_
      refine lv_iload_n hx hb dX16_bestInTime_114 rfl (lv_at hl 2 rfl) ?_
      obtain ⟨v24, u25, hf⟩ := bdP hf
      refine cM_isSold E hK hP hS hA rfl rfl u25 ⟨Nat.le_of_ble_eq_true rfl, Nat.le_of_ble_eq_true rfl⟩ ⟨Nat.zero_le _, Nat.zero_le _⟩ hl.1 (Nat.le_of_ble_eq_true rfl) dX16_bestInTime_115 (fun H locs hP hS => ?_)
      have J243 : ∀ (y26 : Int32), mo_bestInTime_J243 y21 y26 = some o99 → ∀ (H : Heap) (locs : List Loc), PM D G ad σ H → va_S A s.heap H locs → ∀ (ls : Array Slot), lv_has ls 9 [(0, .ref (ad 500)), (1, .int x1), (2, .int x2), (3, .int x3), (4, .int y26), (5, .int y21)] → W p l e rmM_bestInTime s m args below meth c0 H locs 0 0 Q (F0 m 243 ls []) := by
        intro y26 hf H locs hP hS ls hl
        unfold mo_bestInTime_J243 at hf
        obtain ⟨v27, hv27, hf⟩ := bdP hf
        refine lv_iinc (v := v27) (lv' := [(5, .int v27), (0, .ref (ad 500)), (1, .int x1), (2, .int x2), (3, .int x3), (4, .int y26)]) hx hb dX16_bestInTime_243 hl (k := 5) rfl (Option.some.inj hv27) (by decide) rfl (fun ls hl => ?_)
        refine lv_goto (tgt := 99) hx hb dX16_bestInTime_246 (by decide) ?_
        exact ih99 _ (Option.some.inj hf).symm H locs hP hS ls (lv_sub hl [1, 2, 3, 4, 5, 0] rfl) KE99_0
      refine lv_if_eq (tgt := 243) hx hb dX16_bestInTime_118 (by decide) (fun c28 => ?_) (fun c28 => ?_)
      · have hf := ifT c28 hf
        exact J243 y20 hf H locs hP hS ls (lv_sub hl [0, 1, 2, 3, 4, 5] rfl)
      · have hf := ifF c28 hf
        refine lv_aload_n hx hb dX16_bestInTime_121 rfl (lv_at hl 0 rfl) ?_
        refine gM_18 E hK hP dX16_bestInTime_122 ?_
        refine lv_iconst hx hb dX16_bestInTime_125 ic_3 ?_
        refine lv_iload hx hb dX16_bestInTime_126 (lv_at hl 5 rfl) ?_
        refine lv_imul hx hb dX16_bestInTime_128 ?_
        refine lv_iconst hx hb dX16_bestInTime_129 ic_2 ?_
        refine lv_iadd hx hb dX16_bestInTime_130 ?_
        obtain ⟨v29, hv29, hf⟩ := bdP hf
        refine p_iald hx hb hK hP dM_618 rfl hv29 dX16_bestInTime_131 ?_
        refine lv_iload_n hx hb dX16_bestInTime_132 rfl (lv_at hl 3 rfl) ?_
        refine lv_icmp_le (tgt := 139) hx hb dX16_bestInTime_133 (by decide) (fun c30 => ?_) (fun c30 => ?_)
        · have hf := ifT c30 hf
          refine lv_iconst hx hb dX16_bestInTime_139 ic_0 ?_
          refine lv_istore (lv' := [(6, .int 0), (0, .ref (ad 500)), (1, .int x1), (2, .int x2), (3, .int x3), (4, .int y20), (5, .int y21)]) hx hb dX16_bestInTime_140 hl (by decide) rfl (fun ls hl => ?_)
          refine lv_iconst hx hb dX16_bestInTime_142 ic_1 ?_
          refine lv_istore (lv' := [(7, .int 1), (6, .int 0), (0, .ref (ad 500)), (1, .int x1), (2, .int x2), (3, .int x3), (4, .int y20), (5, .int y21)]) hx hb dX16_bestInTime_143 hl (by decide) rfl (fun ls hl => ?_)
          have LP145 : ∀ (st145 : Int32 × Int32) (ex145 : (Int32)), loop (mo_bestInTime_L145 (σ.2.2.1 618) (σ.2.2.1 624) (σ.2.2.1 652) (σ.2.2.2.1 628) x1 x2 x3 y21) st145 = some ex145 → ∀ (H : Heap) (locs : List Loc), PM D G ad σ H → va_S A s.heap H locs → ∀ (ls : Array Slot), lv_has ls 9 [(0, .ref (ad 500)), (1, .int x1), (2, .int x2), (3, .int x3), (4, .int y20), (5, .int y21), (6, .int (st145.1)), (7, .int (st145.2))] → (∀ (y44 : Int32), ex145 = y44 → ∀ (H : Heap) (locs : List Loc), PM D G ad σ H → va_S A s.heap H locs → ∀ (ls : Array Slot), lv_has ls 9 [(0, .ref (ad 500)), (1, .int x1), (2, .int x2), (3, .int x3), (4, .int y20), (5, .int y21), (6, .int y44)] → W p l e rmM_bestInTime s m args below meth c0 H locs 0 0 Q (F0 m 227 ls [])) → W p l e rmM_bestInTime s m args below meth c0 H locs 0 0 Q (F0 m 145 ls []) := by
            refine loop_P (fun st145 ex145 o145 hf ih145 hx145 => ?_)
            obtain ⟨y31, y32⟩ := st145
            intro H locs (hP : PM D G ad σ H) hS ls (hl : lv_has ls 9 [(0, .ref (ad 500)), (1, .int x1), (2, .int x2), (3, .int x3), (4, .int y20), (5, .int y21), (6, .int y31), (7, .int y32)]) KE145_0
            dsimp only [mo_bestInTime_L145] at hf
            refine lv_iload hx hb dX16_bestInTime_145 (lv_at hl 7 rfl) ?_
            refine lv_iconst hx hb dX16_bestInTime_147 ic_3 ?_
            refine lv_icmp_ge (tgt := 227) hx hb dX16_bestInTime_148 (by decide) (fun c33 => ?_) (fun c33 => ?_)
            · have hf := ifT c33 hf
              exact KE145_0 _ (hx145 _ (Option.some.inj hf).symm).symm H locs hP hS ls (lv_sub hl [0, 1, 2, 3, 4, 5, 6] rfl)
            · have hf := ifF c33 hf
              refine lv_iload_n hx hb dX16_bestInTime_151 rfl (lv_at hl 2 rfl) ?_
              refine lv_iload hx hb dX16_bestInTime_152 (lv_at hl 7 rfl) ?_
              refine lv_aload_n hx hb dX16_bestInTime_154 rfl (lv_at hl 0 rfl) ?_
              refine gM_24 E hK hP dX16_bestInTime_155 ?_
              refine lv_aload_n hx hb dX16_bestInTime_158 rfl (lv_at hl 0 rfl) ?_
              refine gM_18 E hK hP dX16_bestInTime_159 ?_
              refine lv_iconst hx hb dX16_bestInTime_162 ic_3 ?_
              refine lv_iload hx hb dX16_bestInTime_163 (lv_at hl 5 rfl) ?_
              refine lv_imul hx hb dX16_bestInTime_165 ?_
              refine lv_iconst hx hb dX16_bestInTime_166 ic_1 ?_
              refine lv_iadd hx hb dX16_bestInTime_167 ?_
              obtain ⟨v34, hv34, hf⟩ := bdP hf
              refine p_iald hx hb hK hP dM_618 rfl hv34 dX16_bestInTime_168 ?_
              obtain ⟨v35, hv35, hf⟩ := bdP hf
              refine p_iald hx hb hK hP dM_624 rfl hv35 dX16_bestInTime_169 ?_
              refine lv_imul hx hb dX16_bestInTime_170 ?_
              refine lv_iadd hx hb dX16_bestInTime_171 ?_
              obtain ⟨v36, hv36, hf⟩ := bdP hf
              refine nm_i (Option.some.inj hv36) ?_
              refine lv_istore (lv' := [(8, .int v36), (0, .ref (ad 500)), (1, .int x1), (2, .int x2), (3, .int x3), (4, .int y20), (5, .int y21), (6, .int y31), (7, .int y32)]) hx hb dX16_bestInTime_172 hl (by decide) rfl (fun ls hl => ?_)
              refine lv_aload_n hx hb dX16_bestInTime_174 rfl (lv_at hl 1 rfl) ?_
              refine gM_28 E hK hP dX16_bestInTime_175 ?_
              refine lv_iload hx hb dX16_bestInTime_178 (lv_at hl 0 rfl) ?_
              obtain ⟨v37, hv37, hf⟩ := bdP hf
              refine p_lald hx hb hK hP dM_628 rfl hv37 dX16_bestInTime_180 ?_
              refine lv_lconst hx hb dX16_bestInTime_181 lc_0 ?_
              refine W.lcmp hx hb dX16_bestInTime_182 ?_
              have J221 : ∀ (y38 : Int32), mo_bestInTime_J221 y32 y38 = some o145 → ∀ (H : Heap) (locs : List Loc), PM D G ad σ H → va_S A s.heap H locs → ∀ (ls : Array Slot), lv_has ls 9 [(0, .ref (ad 500)), (1, .int x1), (2, .int x2), (3, .int x3), (4, .int y20), (5, .int y21), (6, .int y38), (7, .int y32)] → W p l e rmM_bestInTime s m args below meth c0 H locs 0 0 Q (F0 m 221 ls []) := by
                intro y38 hf H locs hP hS ls hl
                unfold mo_bestInTime_J221 at hf
                obtain ⟨v39, hv39, hf⟩ := bdP hf
                refine lv_iinc (v := v39) (lv' := [(7, .int v39), (0, .ref (ad 500)), (1, .int x1), (2, .int x2), (3, .int x3), (4, .int y20), (5, .int y21), (6, .int y38)]) hx hb dX16_bestInTime_221 hl (k := 7) rfl (Option.some.inj hv39) (by decide) rfl (fun ls hl => ?_)
                refine lv_goto (tgt := 145) hx hb dX16_bestInTime_224 (by decide) ?_
                exact ih145 _ (Option.some.inj hf).symm H locs hP hS ls (lv_sub hl [1, 2, 3, 4, 5, 6, 7, 0] rfl) KE145_0
              refine lv_if_le (tgt := 221) hx hb dX16_bestInTime_183 (by decide) (fun c40 => ?_) (fun c40 => ?_)
              · have hf := ifT ((lgc_le _ _).mp c40) hf
                exact J221 y31 hf H locs hP hS ls (lv_sub hl [1, 2, 3, 4, 5, 6, 7, 8] rfl)
              · have hf := ifF (mt (lgc_le _ _).mpr c40) hf
                refine lv_iload hx hb dX16_bestInTime_186 (lv_at hl 7 rfl) ?_
                refine lv_aload_n hx hb dX16_bestInTime_188 rfl (lv_at hl 1 rfl) ?_
                refine gM_52 E hK hP dX16_bestInTime_189 ?_
                refine lv_sipush hx hb dX16_bestInTime_192 sp_7290 ?_
                refine lv_iload_n hx hb dX16_bestInTime_195 rfl (lv_at hl 4 rfl) ?_
                refine lv_aload_n hx hb dX16_bestInTime_196 rfl (lv_at hl 1 rfl) ?_
                refine gM_18 E hK hP dX16_bestInTime_197 ?_
                refine lv_iconst hx hb dX16_bestInTime_200 ic_3 ?_
                refine lv_iload hx hb dX16_bestInTime_201 (lv_at hl 6 rfl) ?_
                refine lv_imul hx hb dX16_bestInTime_203 ?_
                refine lv_iconst hx hb dX16_bestInTime_204 ic_2 ?_
                refine lv_iadd hx hb dX16_bestInTime_205 ?_
                obtain ⟨v41, hv41, hf⟩ := bdP hf
                refine p_iald hx hb hK hP dM_618 rfl hv41 dX16_bestInTime_206 ?_
                refine lv_isub hx hb dX16_bestInTime_207 ?_
                refine lv_imul hx hb dX16_bestInTime_208 ?_
                refine lv_bipush hx hb dX16_bestInTime_209 bp_10 ?_
                refine lv_iload hx hb dX16_bestInTime_211 (lv_at hl 0 rfl) ?_
                refine lv_imul hx hb dX16_bestInTime_213 ?_
                refine lv_iadd hx hb dX16_bestInTime_214 ?_
                refine lv_iload_n hx hb dX16_bestInTime_215 rfl (lv_at hl 2 rfl) ?_
                refine lv_iadd hx hb dX16_bestInTime_216 ?_
                obtain ⟨v42, hv42, hf⟩ := bdP hf
                refine p_iald hx hb hK hP dM_652 rfl hv42 dX16_bestInTime_217 ?_
                refine lv_iadd hx hb dX16_bestInTime_218 ?_
                obtain ⟨v43, hv43, hf⟩ := bdP hf
                refine nm_i (Option.some.inj hv43) ?_
                refine lv_istore (lv' := [(6, .int v43), (8, .int v36), (0, .ref (ad 500)), (1, .int x1), (2, .int x2), (3, .int x3), (4, .int y20), (5, .int y21), (7, .int y32)]) hx hb dX16_bestInTime_219 hl (by decide) rfl (fun ls hl => ?_)
                exact J221 v43 hf H locs hP hS ls (lv_sub hl [2, 3, 4, 5, 6, 7, 0, 8] rfl)
          obtain ⟨ex145, hlp145, hf⟩ := bdP hf
          refine LP145 (0, 1) ex145 hlp145 H locs hP hS ls (lv_sub hl [2, 3, 4, 5, 6, 7, 1, 0] rfl) ?_
          intro y44 hex145 H locs hP hS ls hl
          subst ex145
          refine lv_iload hx hb dX16_bestInTime_227 (lv_at hl 6 rfl) ?_
          refine lv_iload hx hb dX16_bestInTime_229 (lv_at hl 4 rfl) ?_
          have J241 : ∀ (k45 : Int32), mo_bestInTime_J241 y21 k45 = some o99 → ∀ (H : Heap) (locs : List Loc), PM D G ad σ H → va_S A s.heap H locs → ∀ (ls : Array Slot), lv_has ls 9 [(0, .ref (ad 500)), (1, .int x1), (2, .int x2), (3, .int x3), (5, .int y21)] → W p l e rmM_bestInTime s m args below meth c0 H locs 0 0 Q (F0 m 241 ls [.int k45]) := by
            intro k45 hf H locs hP hS ls hl
            unfold mo_bestInTime_J241 at hf
            refine lv_istore (lv' := [(4, .int k45), (0, .ref (ad 500)), (1, .int x1), (2, .int x2), (3, .int x3), (5, .int y21)]) hx hb dX16_bestInTime_241 hl (by decide) rfl (fun ls hl => ?_)
            exact J243 k45 hf H locs hP hS ls (lv_sub hl [1, 2, 3, 4, 0, 5] rfl)
          refine lv_icmp_le (tgt := 239) hx hb dX16_bestInTime_231 (by decide) (fun c46 => ?_) (fun c46 => ?_)
          · have hf := ifT c46 hf
            refine lv_iload hx hb dX16_bestInTime_239 (lv_at hl 4 rfl) ?_
            exact J241 y20 hf H locs hP hS ls (lv_sub hl [0, 1, 2, 3, 5] rfl)
          · have hf := ifF c46 hf
            refine lv_iload hx hb dX16_bestInTime_234 (lv_at hl 6 rfl) ?_
            refine lv_goto (tgt := 241) hx hb dX16_bestInTime_236 (by decide) ?_
            exact J241 y44 hf H locs hP hS ls (lv_sub hl [0, 1, 2, 3, 5] rfl)
        · have hf := ifF c30 hf
          refine lv_goto (tgt := 243) hx hb dX16_bestInTime_136 (by decide) ?_
          exact J243 y20 hf H locs hP hS ls (lv_sub hl [0, 1, 2, 3, 4, 5] rfl)
  obtain ⟨ex99, hlp99, hf⟩ := bdP hf
  refine LP99 (y19, 0) ex99 hlp99 H locs hP hS ls (lv_sub hl [1, 2, 3, 4, 5, 0] rfl) ?_
  intro y47 hex99 H locs hP hS ls hl
  subst ex99
  refine lv_iload hx hb dX16_bestInTime_249 (lv_at hl 0 rfl) ?_
  cases hf
  rw [hQ]; exact p_iret hx hb hr hlk hK hP hS dX16_bestInTime_251
theorem kM_bestInTime (l : Launch) (D : va_G) (G : Nat → ClassId) (ad : Nat → Nat) (σ : Sto) {x1 : Int32} {x2 : Int32} {x3 : Int32} {r_ : Int32} (hf : mo_bestInTime (σ.1 522) (σ.2.2.1 611) (σ.2.2.1 615) (σ.2.2.1 618) (σ.2.2.1 620) (σ.2.2.1 621) (σ.2.2.1 624) (σ.2.2.1 652) (σ.2.2.2.1 628) x1 x2 x3 = some r_) : CtI l D clsA G dscM ad yX16_bestInTime (ws_ yX16_bestInTime cX16_bestInTime 9 (Option.some Jvm.ClassFile.FieldType.int)) rmM_bestInTime [.ref (ad 500), .int x1, .int x2, .int x3] σ r_ σ :=
  p_ctI (by decide +kernel) (Nat.le_of_ble_eq_true rfl) (fun p e s m below meth c0 ls A E hP hK hA hS hl => wkM_bestInTime E hK hA hf rfl hP hS hl)
theorem cM_bestInTime (E : EN p s m args meth c0 RX16 cc nL ret) (hK : KK D clsA G s) (hP : PM D G ad σ H) (hS : va_S A s.heap H locs) (hA : ∀ q, PA dscM ad s.heap.size q → A q) {x1 : Int32} {x2 : Int32} {x3 : Int32} {r_ : Int32} {z_worlds : Int32} (e_zI522 : σ.1 522 = z_worlds) {a_many : Nat → Int32} (e_aI611 : σ.2.2.1 611 = a_many) {a_road : Nat → Int32} (e_aI615 : σ.2.2.1 615 = a_road) {a_word : Nat → Int32} (e_aI618 : σ.2.2.1 618 = a_word) {a_seen : Nat → Int32} (e_aI620 : σ.2.2.1 620 = a_seen) {a_between : Nat → Int32} (e_aI621 : σ.2.2.1 621 = a_between) {a_three : Nat → Int32} (e_aI624 : σ.2.2.1 624 = a_three) {a_inTime : Nat → Int32} (e_aI652 : σ.2.2.1 652 = a_inTime) {a_likely : Nat → Int64} (e_aL628 : σ.2.2.2.1 628 = a_likely) (hu : mo_bestInTime z_worlds a_many a_road a_word a_seen a_between a_three a_inTime a_likely x1 x2 x3 = some r_) (hR : rmM_bestInTime.frames + 1 ≤ R.frames ∧ 8 + (9 + 11) + rmM_bestInTime.locals ≤ R.locals) (hcs : cells ≤ R.cells ∧ slots ≤ R.slots) (hsz : ls.size = nL) (hW : (rest.map fun v => v.category).sum ≤ 8) (hdg : decode cc pc = .ok (.invokevirtual 454, 3)) (kk : ∀ (H1 : Heap) (locs1 : List Loc), PM D G ad σ H1 → va_S A s.heap H1 locs1 → W p l e R s m args below meth c0 H1 locs1 cells slots Q (F0 m (pc + 3) ls (.int r_ :: rest))) : W p l e R s m args below meth c0 H locs cells slots Q (F0 m pc ls (.int x3 :: .int x2 :: .int x1 :: .ref (ad 500) :: rest)) := by
  subst e_zI522
  subst e_aI611
  subst e_aI615
  subst e_aI618
  subst e_aI620
  subst e_aI621
  subst e_aI624
  subst e_aI652
  subst e_aL628
  exact p_callI (As := [.int x1, .int x2, .int x3]) (rest := rest) E.1 hK hP hS hA (kM_bestInTime l D G ad σ hu) (cwV 3 E.1.2.2.2.2 (lw_V q2213 q2215 qs118 q142 q2216) rfl rfl rfl (by decide +kernel) hR) dM_500 rfl rfl rfl hsz rfl hW hdg hcs kk
/-! layBell(II)V -/
def sgM_layBell (σ : Sto) (w0 : Nat → Int32) : Sto := aI σ 652 w0
theorem sgM_layBell_self (σ : Sto) : sgM_layBell σ (σ.2.2.1 652) = σ := by
  unfold sgM_layBell
  simp only [zI_self, zL_self, aI_self, aL_self]
theorem sgM_layBell_aI652 {σ : Sto} {w0 : Nat → Int32} {g : Nat → Int32} : aI (sgM_layBell σ w0) 652 g = sgM_layBell σ g := aI_aI _ 652 _ _
theorem sgM_layBell_rzI522 {σ : Sto} {w0 : Nat → Int32} : (sgM_layBell σ w0).1 522 = σ.1 522 := rfl
theorem sgM_layBell_raI611 {σ : Sto} {w0 : Nat → Int32} : (sgM_layBell σ w0).2.2.1 611 = σ.2.2.1 611 := rfl
theorem sgM_layBell_raI615 {σ : Sto} {w0 : Nat → Int32} : (sgM_layBell σ w0).2.2.1 615 = σ.2.2.1 615 := rfl
theorem sgM_layBell_raI618 {σ : Sto} {w0 : Nat → Int32} : (sgM_layBell σ w0).2.2.1 618 = σ.2.2.1 618 := rfl
theorem sgM_layBell_raI620 {σ : Sto} {w0 : Nat → Int32} : (sgM_layBell σ w0).2.2.1 620 = σ.2.2.1 620 := rfl
theorem sgM_layBell_raI621 {σ : Sto} {w0 : Nat → Int32} : (sgM_layBell σ w0).2.2.1 621 = σ.2.2.1 621 := rfl
theorem sgM_layBell_raI624 {σ : Sto} {w0 : Nat → Int32} : (sgM_layBell σ w0).2.2.1 624 = σ.2.2.1 624 := rfl
theorem sgM_layBell_raI652 {σ : Sto} {w0 : Nat → Int32} : (sgM_layBell σ w0).2.2.1 652 = w0 := rfl
theorem sgM_layBell_raL628 {σ : Sto} {w0 : Nat → Int32} : (sgM_layBell σ w0).2.2.2.1 628 = σ.2.2.2.1 628 := rfl
abbrev rmM_layBell : Room := { frames := 3, cells := 0, slots := 0, locals := 79 }
set_option maxHeartbeats 4000000 in
theorem wkM_layBell {x1 : Int32} {x2 : Int32} {w_aI652 : Nat → Int32} (E : EN p s m args meth c0 RX16 cX16_layBell 5 (Option.none : Option Jvm.ClassFile.FieldType)) (hK : KK D clsA G s) (hA : ∀ q, PA dscM ad s.heap.size q → A q) (hf : mo_layBell (σ.1 522) (σ.2.2.1 611) (σ.2.2.1 615) (σ.2.2.1 618) (σ.2.2.1 620) (σ.2.2.1 621) (σ.2.2.1 624) (σ.2.2.1 652) (σ.2.2.2.1 628) x1 x2 = some w_aI652) (hQ : Q = MQ below (va_Qv (fun (_ : Unit) => True) (fun _ t => PM D G ad (sgM_layBell σ w_aI652) t.heap ∧ KK D clsA G t) A) args s 0 0 A) (hP : PM D G ad σ H) (hS : va_S A s.heap H locs) (hl : lv_has ls 5 [(0, .ref (ad 500)), (1, .int x1), (2, .int x2)]) : W p l e rmM_layBell s m args below meth c0 H locs 0 0 Q (F0 m 0 ls []) := by
  obtain ⟨⟨hx, hb, hml, hown, hts⟩, hr, hlk⟩ := id E
  have hP := hP.to (sgM_layBell_self σ).symm
  unfold mo_layBell at hf
  refine lv_iconst hx hb dX16_layBell_0 ic_0 ?_
  refine lv_istore_n (lv' := [(3, .int 0), (0, .ref (ad 500)), (1, .int x1), (2, .int x2)]) hx hb dX16_layBell_1 rfl hl (by decide) rfl (fun ls hl => ?_)
  have LP2 : ∀ (st2 : Int32 × (Nat → Int32)) (ex2 : ((Nat → Int32))), loop (mo_layBell_L2 (σ.1 522) (σ.2.2.1 611) (σ.2.2.1 615) (σ.2.2.1 618) (σ.2.2.1 620) (σ.2.2.1 621) (σ.2.2.1 624) (σ.2.2.2.1 628) x1 x2) st2 = some ex2 → ∀ (H : Heap) (locs : List Loc), PM D G ad (sgM_layBell σ (st2.2)) H → va_S A s.heap H locs → ∀ (ls : Array Slot), lv_has ls 5 [(0, .ref (ad 500)), (1, .int x1), (2, .int x2), (3, .int (st2.1))] → (∀ (a24 : Nat → Int32), ex2 = a24 → ∀ (H : Heap) (locs : List Loc), PM D G ad (sgM_layBell σ a24) H → va_S A s.heap H locs → ∀ (ls : Array Slot), lv_has ls 5 [] → W p l e rmM_layBell s m args below meth c0 H locs 0 0 Q (F0 m 92 ls [])) → W p l e rmM_layBell s m args below meth c0 H locs 0 0 Q (F0 m 2 ls []) := by
    refine loop_P (fun st2 ex2 o2 hf ih2 hx2 => ?_)
    obtain ⟨y1, a2⟩ := st2
    intro H locs (hP : PM D G ad (sgM_layBell σ a2) H) hS ls (hl : lv_has ls 5 [(0, .ref (ad 500)), (1, .int x1), (2, .int x2), (3, .int y1)]) KE2_0
    dsimp only [mo_layBell_L2] at hf
    refine lv_iload_n hx hb dX16_layBell_2 rfl (lv_at hl 3 rfl) ?_
    refine lv_iload_n hx hb dX16_layBell_3 rfl (lv_at hl 2 rfl) ?_
    refine lv_icmp_gt (tgt := 92) hx hb dX16_layBell_4 (by decide) (fun c3 => ?_) (fun c3 => ?_)
    · have hf := ifT c3 hf
      exact KE2_0 _ (hx2 _ (Option.some.inj hf).symm).symm H locs hP hS ls (lv_sub hl [] rfl)
    · have hf := ifF c3 hf
      refine lv_iconst hx hb dX16_layBell_7 ic_0 ?_
      refine lv_istore (lv' := [(4, .int 0), (0, .ref (ad 500)), (1, .int x1), (2, .int x2), (3, .int y1)]) hx hb dX16_layBell_8 hl (by decide) rfl (fun ls hl => ?_)
      have LP10 : ∀ (st10 : Int32 × (Nat → Int32)) (ex10 : ((Nat → Int32))), loop (mo_layBell_L10 (σ.1 522) (σ.2.2.1 611) (σ.2.2.1 615) (σ.2.2.1 618) (σ.2.2.1 620) (σ.2.2.1 621) (σ.2.2.1 624) (σ.2.2.2.1 628) x1 y1) st10 = some ex10 → ∀ (H : Heap) (locs : List Loc), PM D G ad (sgM_layBell σ (st10.2)) H → va_S A s.heap H locs → ∀ (ls : Array Slot), lv_has ls 5 [(0, .ref (ad 500)), (1, .int x1), (2, .int x2), (3, .int y1), (4, .int (st10.1))] → (∀ (a22 : Nat → Int32), ex10 = a22 → ∀ (H : Heap) (locs : List Loc), PM D G ad (sgM_layBell σ a22) H → va_S A s.heap H locs → ∀ (ls : Array Slot), lv_has ls 5 [(0, .ref (ad 500)), (1, .int x1), (2, .int x2), (3, .int y1)] → W p l e rmM_layBell s m args below meth c0 H locs 0 0 Q (F0 m 86 ls [])) → W p l e rmM_layBell s m args below meth c0 H locs 0 0 Q (F0 m 10 ls []) := by
        refine loop_P (fun st10 ex10 o10 hf ih10 hx10 => ?_)
        obtain ⟨y4, a5⟩ := st10
        intro H locs (hP : PM D G ad (sgM_layBell σ a5) H) hS ls (hl : lv_has ls 5 [(0, .ref (ad 500)), (1, .int x1), (2, .int x2), (3, .int y1), (4, .int y4)]) KE10_0
        dsimp only [mo_layBell_L10] at hf
        refine lv_iload hx hb dX16_layBell_10 (lv_at hl 4 rfl) ?_
        refine lv_aload_n hx hb dX16_layBell_12 rfl (lv_at hl 0 rfl) ?_
        obtain ⟨v6, u7, hf⟩ := bdP hf
        refine cM_places E hK hP hS hA sgM_layBell_raI611 u7 ⟨Nat.le_of_ble_eq_true rfl, Nat.le_of_ble_eq_true rfl⟩ ⟨Nat.zero_le _, Nat.zero_le _⟩ hl.1 (Nat.le_of_ble_eq_true rfl) dX16_layBell_13 (fun H locs hP hS => ?_)
        refine lv_icmp_ge (tgt := 86) hx hb dX16_layBell_16 (by decide) (fun c8 => ?_) (fun c8 => ?_)
        · have hf := ifT c8 hf
          exact KE10_0 _ (hx10 _ (Option.some.inj hf).symm).symm H locs hP hS ls (lv_sub hl [0, 1, 2, 3] rfl)
        · have hf := ifF c8 hf
          refine lv_aload_n hx hb dX16_layBell_19 rfl (lv_at hl 0 rfl) ?_
          refine lv_iload hx hb dX16_layBell_20 (lv_at hl 4 rfl) ?_
          refine lv_iload_n hx hb dX16_layBell_22 rfl (lv_at hl 1 rfl) ?_
          obtain ⟨v9, u10, hf⟩ := bdP hf
          refine cM_isSeen E hK hP hS hA sgM_layBell_raI611 sgM_layBell_raI620 sgM_layBell_raI624 u10 ⟨Nat.le_of_ble_eq_true rfl, Nat.le_of_ble_eq_true rfl⟩ ⟨Nat.zero_le _, Nat.zero_le _⟩ hl.1 (Nat.le_of_ble_eq_true rfl) dX16_layBell_23 (fun H locs hP hS => ?_)
          have J80 : ∀ (a11 : Nat → Int32), mo_layBell_J80 y4 a11 = some o10 → ∀ (H : Heap) (locs : List Loc), PM D G ad (sgM_layBell σ a11) H → va_S A s.heap H locs → ∀ (ls : Array Slot), lv_has ls 5 [(0, .ref (ad 500)), (1, .int x1), (2, .int x2), (3, .int y1), (4, .int y4)] → W p l e rmM_layBell s m args below meth c0 H locs 0 0 Q (F0 m 80 ls []) := by
            intro a11 hf H locs hP hS ls hl
            unfold mo_layBell_J80 at hf
            obtain ⟨v12, hv12, hf⟩ := bdP hf
            refine lv_iinc (v := v12) (lv' := [(4, .int v12), (0, .ref (ad 500)), (1, .int x1), (2, .int x2), (3, .int y1)]) hx hb dX16_layBell_80 hl (k := 4) rfl (Option.some.inj hv12) (by decide) rfl (fun ls hl => ?_)
            refine lv_goto (tgt := 10) hx hb dX16_layBell_83 (by decide) ?_
            exact ih10 _ (Option.some.inj hf).symm H locs hP hS ls (lv_sub hl [1, 2, 3, 4, 0] rfl) KE10_0
          refine lv_if_ne (tgt := 32) hx hb dX16_layBell_26 (by decide) (fun c13 => ?_) (fun c13 => ?_)
          · have hf := ifF c13 hf
            refine lv_aload_n hx hb dX16_layBell_32 rfl (lv_at hl 0 rfl) ?_
            refine gM_52 E hK hP dX16_layBell_33 ?_
            refine lv_sipush hx hb dX16_layBell_36 sp_7290 ?_
            refine lv_iload_n hx hb dX16_layBell_39 rfl (lv_at hl 3 rfl) ?_
            refine lv_imul hx hb dX16_layBell_40 ?_
            refine lv_bipush hx hb dX16_layBell_41 bp_10 ?_
            refine lv_iload_n hx hb dX16_layBell_43 rfl (lv_at hl 1 rfl) ?_
            refine lv_imul hx hb dX16_layBell_44 ?_
            refine lv_iadd hx hb dX16_layBell_45 ?_
            refine lv_iload hx hb dX16_layBell_46 (lv_at hl 4 rfl) ?_
            refine lv_iadd hx hb dX16_layBell_48 ?_
            refine lv_iload hx hb dX16_layBell_49 (lv_at hl 4 rfl) ?_
            refine lv_aload_n hx hb dX16_layBell_51 rfl (lv_at hl 0 rfl) ?_
            refine gM_11 E hK hP dX16_layBell_52 ?_
            refine lv_bipush hx hb dX16_layBell_55 bp_7 ?_
            obtain ⟨v14, hv14, hf⟩ := bdP hf
            refine p_iald hx hb hK hP dM_611 sgM_layBell_raI611 hv14 dX16_layBell_57 ?_
            have J79 : ∀ (k15 : Int32) (k16 : Int32), mo_layBell_J79 y4 a5 k15 k16 = some o10 → ∀ (H : Heap) (locs : List Loc), PM D G ad (sgM_layBell σ a5) H → va_S A s.heap H locs → ∀ (ls : Array Slot), lv_has ls 5 [(0, .ref (ad 500)), (1, .int x1), (2, .int x2), (3, .int y1), (4, .int y4)] → W p l e rmM_layBell s m args below meth c0 H locs 0 0 Q (F0 m 79 ls [.int k15, .int k16, .ref (ad 652)]) := by
              intro k15 k16 hf H locs hP hS ls hl
              unfold mo_layBell_J79 at hf
              obtain ⟨a17, ha17, hf⟩ := bdP hf
              refine p_iast hx hb hK hP hS (hA _ (PA_c dM_652)) dM_652 sgM_layBell_raI652 ha17 sgM_layBell_aI652 dX16_layBell_79 (fun H locs hP hS => ?_)
              exact J80 a17 hf H locs hP hS ls (lv_sub hl [0, 1, 2, 3, 4] rfl)
            refine lv_icmp_ne (tgt := 71) hx hb dX16_layBell_58 (by decide) (fun c18 => ?_) (fun c18 => ?_)
            · have hf := ifF c18 hf
              refine lv_aload_n hx hb dX16_layBell_71 rfl (lv_at hl 0 rfl) ?_
              refine lv_iload hx hb dX16_layBell_72 (lv_at hl 4 rfl) ?_
              refine lv_iload_n hx hb dX16_layBell_74 rfl (lv_at hl 1 rfl) ?_
              refine lv_iload_n hx hb dX16_layBell_75 rfl (lv_at hl 3 rfl) ?_
              obtain ⟨v19, u20, hf⟩ := bdP hf
              refine cM_bestInTime E hK hP hS hA sgM_layBell_rzI522 sgM_layBell_raI611 sgM_layBell_raI615 sgM_layBell_raI618 sgM_layBell_raI620 sgM_layBell_raI621 sgM_layBell_raI624 sgM_layBell_raI652 sgM_layBell_raL628 u20 ⟨Nat.le_of_ble_eq_true rfl, Nat.le_of_ble_eq_true rfl⟩ ⟨Nat.zero_le _, Nat.zero_le _⟩ hl.1 (Nat.le_of_ble_eq_true rfl) dX16_layBell_76 (fun H locs hP hS => ?_)
              exact J79 v19 (((7290 * y1) + (10 * x1)) + y4) hf H locs hP hS ls (lv_sub hl [0, 1, 2, 3, 4] rfl)
            · have hf := ifT c18 hf
              refine lv_aload_n hx hb dX16_layBell_61 rfl (lv_at hl 0 rfl) ?_
              refine gM_28 E hK hP dX16_layBell_62 ?_
              refine lv_iload_n hx hb dX16_layBell_65 rfl (lv_at hl 1 rfl) ?_
              obtain ⟨v21, hv21, hf⟩ := bdP hf
              refine p_lald hx hb hK hP dM_628 sgM_layBell_raL628 hv21 dX16_layBell_66 ?_
              refine lv_l2i hx hb dX16_layBell_67 rfl ?_
              refine lv_goto (tgt := 79) hx hb dX16_layBell_68 (by decide) ?_
              exact J79 (v21.toInt32) (((7290 * y1) + (10 * x1)) + y4) hf H locs hP hS ls (lv_sub hl [0, 1, 2, 3, 4] rfl)
          · have hf := ifT c13 hf
            refine lv_goto (tgt := 80) hx hb dX16_layBell_29 (by decide) ?_
            exact J80 a5 hf H locs hP hS ls (lv_sub hl [0, 1, 2, 3, 4] rfl)
      obtain ⟨ex10, hlp10, hf⟩ := bdP hf
      refine LP10 (0, a2) ex10 hlp10 H locs hP hS ls (lv_sub hl [1, 2, 3, 4, 0] rfl) ?_
      intro a22 hex10 H locs hP hS ls hl
      subst ex10
      obtain ⟨v23, hv23, hf⟩ := bdP hf
      refine lv_iinc (v := v23) (lv' := [(3, .int v23), (0, .ref (ad 500)), (1, .int x1), (2, .int x2)]) hx hb dX16_layBell_86 hl (k := 3) rfl (Option.some.inj hv23) (by decide) rfl (fun ls hl => ?_)
      refine lv_goto (tgt := 2) hx hb dX16_layBell_89 (by decide) ?_
      exact ih2 _ (Option.some.inj hf).symm H locs hP hS ls (lv_sub hl [1, 2, 3, 0] rfl) KE2_0
  obtain ⟨ex2, hlp2, hf⟩ := bdP hf
  refine LP2 (0, (σ.2.2.1 652)) ex2 hlp2 H locs hP hS ls (lv_sub hl [1, 2, 3, 0] rfl) ?_
  intro a24 hex2 H locs hP hS ls hl
  subst ex2
  cases hf
  rw [hQ]; exact p_vret hx hb hr hlk hK hP hS dX16_layBell_92
theorem kM_layBell (l : Launch) (D : va_G) (G : Nat → ClassId) (ad : Nat → Nat) (σ : Sto) {x1 : Int32} {x2 : Int32} {w_aI652 : Nat → Int32} (hf : mo_layBell (σ.1 522) (σ.2.2.1 611) (σ.2.2.1 615) (σ.2.2.1 618) (σ.2.2.1 620) (σ.2.2.1 621) (σ.2.2.1 624) (σ.2.2.1 652) (σ.2.2.2.1 628) x1 x2 = some w_aI652) : CtV l D clsA G dscM ad yX16_layBell (ws_ yX16_layBell cX16_layBell 5 (Option.none : Option Jvm.ClassFile.FieldType)) rmM_layBell [.ref (ad 500), .int x1, .int x2] σ (sgM_layBell σ w_aI652) :=
  p_ctV (by decide +kernel) (Nat.le_of_ble_eq_true rfl) (fun p e s m below meth c0 ls A E hP hK hA hS hl => wkM_layBell E hK hA hf rfl hP hS hl)
theorem cM_layBell (E : EN p s m args meth c0 RX16 cc nL ret) (hK : KK D clsA G s) (hP : PM D G ad σ H) (hS : va_S A s.heap H locs) (hA : ∀ q, PA dscM ad s.heap.size q → A q) {x1 : Int32} {x2 : Int32} {w_aI652 : Nat → Int32} {z_worlds : Int32} (e_zI522 : σ.1 522 = z_worlds) {a_many : Nat → Int32} (e_aI611 : σ.2.2.1 611 = a_many) {a_road : Nat → Int32} (e_aI615 : σ.2.2.1 615 = a_road) {a_word : Nat → Int32} (e_aI618 : σ.2.2.1 618 = a_word) {a_seen : Nat → Int32} (e_aI620 : σ.2.2.1 620 = a_seen) {a_between : Nat → Int32} (e_aI621 : σ.2.2.1 621 = a_between) {a_three : Nat → Int32} (e_aI624 : σ.2.2.1 624 = a_three) {a_inTime : Nat → Int32} (e_aI652 : σ.2.2.1 652 = a_inTime) {a_likely : Nat → Int64} (e_aL628 : σ.2.2.2.1 628 = a_likely) (hu : mo_layBell z_worlds a_many a_road a_word a_seen a_between a_three a_inTime a_likely x1 x2 = some w_aI652) (hR : rmM_layBell.frames + 1 ≤ R.frames ∧ 8 + (5 + 11) + rmM_layBell.locals ≤ R.locals) (hcs : cells ≤ R.cells ∧ slots ≤ R.slots) (hsz : ls.size = nL) (hW : (rest.map fun v => v.category).sum ≤ 8) (hdg : decode cc pc = .ok (.invokevirtual 448, 3)) (kk : ∀ (H1 : Heap) (locs1 : List Loc), PM D G ad (aI σ 652 w_aI652) H1 → va_S A s.heap H1 locs1 → W p l e R s m args below meth c0 H1 locs1 cells slots Q (F0 m (pc + 3) ls rest)) : W p l e R s m args below meth c0 H locs cells slots Q (F0 m pc ls (.int x2 :: .int x1 :: .ref (ad 500) :: rest)) := by
  subst e_zI522
  subst e_aI611
  subst e_aI615
  subst e_aI618
  subst e_aI620
  subst e_aI621
  subst e_aI624
  subst e_aI652
  subst e_aL628
  exact p_callV (As := [.int x1, .int x2]) (rest := rest) E.1 hK hP hS hA (kM_layBell l D G ad σ hu) (cwV 2 E.1.2.2.2.2 (lw_V q2209 q2211 qs117 q142 q2212) rfl rfl rfl (by decide +kernel) hR) dM_500 rfl rfl rfl hsz rfl hW hdg hcs kk
/-! bell(I)J -/
def sgM_bell (σ : Sto) (w0 : Int32) (w1 : Nat → Int32) : Sto := aI (zI σ 502 w0) 652 w1
theorem sgM_bell_self (σ : Sto) : sgM_bell σ (σ.1 502) (σ.2.2.1 652) = σ := by
  unfold sgM_bell
  simp only [zI_self, zL_self, aI_self, aL_self]
theorem sgM_bell_zI502 {σ : Sto} {w0 : Int32} {w1 : Nat → Int32} {g : Int32} : zI (sgM_bell σ w0 w1) 502 g = sgM_bell σ g w1 := (cm_zI_aI _ _ _ _ _).trans (congrArg (fun z => aI z 652 w1) (zI_zI _ 502 _ _))
theorem sgM_bell_aI652 {σ : Sto} {w0 : Int32} {w1 : Nat → Int32} {g : Nat → Int32} : aI (sgM_bell σ w0 w1) 652 g = sgM_bell σ w0 g := aI_aI _ 652 _ _
theorem sgM_bell_rzI502 {σ : Sto} {w0 : Int32} {w1 : Nat → Int32} : (sgM_bell σ w0 w1).1 502 = w0 := rfl
theorem sgM_bell_rzI522 {σ : Sto} {w0 : Int32} {w1 : Nat → Int32} : (sgM_bell σ w0 w1).1 522 = σ.1 522 := rfl
theorem sgM_bell_rzI523 {σ : Sto} {w0 : Int32} {w1 : Nat → Int32} : (sgM_bell σ w0 w1).1 523 = σ.1 523 := rfl
theorem sgM_bell_raI611 {σ : Sto} {w0 : Int32} {w1 : Nat → Int32} : (sgM_bell σ w0 w1).2.2.1 611 = σ.2.2.1 611 := rfl
theorem sgM_bell_raI615 {σ : Sto} {w0 : Int32} {w1 : Nat → Int32} : (sgM_bell σ w0 w1).2.2.1 615 = σ.2.2.1 615 := rfl
theorem sgM_bell_raI618 {σ : Sto} {w0 : Int32} {w1 : Nat → Int32} : (sgM_bell σ w0 w1).2.2.1 618 = σ.2.2.1 618 := rfl
theorem sgM_bell_raI620 {σ : Sto} {w0 : Int32} {w1 : Nat → Int32} : (sgM_bell σ w0 w1).2.2.1 620 = σ.2.2.1 620 := rfl
theorem sgM_bell_raI621 {σ : Sto} {w0 : Int32} {w1 : Nat → Int32} : (sgM_bell σ w0 w1).2.2.1 621 = σ.2.2.1 621 := rfl
theorem sgM_bell_raI624 {σ : Sto} {w0 : Int32} {w1 : Nat → Int32} : (sgM_bell σ w0 w1).2.2.1 624 = σ.2.2.1 624 := rfl
theorem sgM_bell_raI625 {σ : Sto} {w0 : Int32} {w1 : Nat → Int32} : (sgM_bell σ w0 w1).2.2.1 625 = σ.2.2.1 625 := rfl
theorem sgM_bell_raI652 {σ : Sto} {w0 : Int32} {w1 : Nat → Int32} : (sgM_bell σ w0 w1).2.2.1 652 = w1 := rfl
theorem sgM_bell_raL628 {σ : Sto} {w0 : Int32} {w1 : Nat → Int32} : (sgM_bell σ w0 w1).2.2.2.1 628 = σ.2.2.2.1 628 := rfl
abbrev rmM_bell : Room := { frames := 4, cells := 0, slots := 0, locals := 103 }
set_option maxHeartbeats 4000000 in
theorem wkM_bell {x1 : Int32} {r_ : Int64} {w_zI502 : Int32} {w_aI652 : Nat → Int32} (E : EN p s m args meth c0 RX16 cX16_bell 3 (Option.some Jvm.ClassFile.FieldType.long)) (hK : KK D clsA G s) (hA : ∀ q, PA dscM ad s.heap.size q → A q) (hf : mo_bell (σ.1 502) (σ.1 522) (σ.1 523) (σ.2.2.1 611) (σ.2.2.1 615) (σ.2.2.1 618) (σ.2.2.1 620) (σ.2.2.1 621) (σ.2.2.1 624) (σ.2.2.1 625) (σ.2.2.1 652) (σ.2.2.2.1 628) x1 = some (r_, w_zI502, w_aI652)) (hQ : Q = MQ below (va_Ql (fun x (_ : Unit) => x = r_) (fun _ t => PM D G ad (sgM_bell σ w_zI502 w_aI652) t.heap ∧ KK D clsA G t) A) args s 0 0 A) (hP : PM D G ad σ H) (hS : va_S A s.heap H locs) (hl : lv_has ls 3 [(0, .ref (ad 500)), (1, .int x1)]) : W p l e rmM_bell s m args below meth c0 H locs 0 0 Q (F0 m 0 ls []) := by
  obtain ⟨⟨hx, hb, hml, hown, hts⟩, hr, hlk⟩ := id E
  have hP := hP.to (sgM_bell_self σ).symm
  unfold mo_bell at hf
  refine lv_aload_n hx hb dX16_bell_0 rfl (lv_at hl 0 rfl) ?_
  refine lv_iconst hx hb dX16_bell_1 ic_0 ?_
  refine uM_2 E hK hP hS (hA _ (PA_c dM_500)) sgM_bell_zI502 dX16_bell_2 (fun H locs hP hS => ?_)
  refine lv_iload_n hx hb dX16_bell_5 rfl (lv_at hl 1 rfl) ?_
  refine lv_iconst hx hb dX16_bell_6 ic_0 ?_
  refine lv_bipush hx hb dX16_bell_7 bp_48 ?_
  obtain ⟨v1, u2, hf⟩ := bdP hf
  refine cM_isIn E hK hP hS hA u2 ⟨Nat.le_of_ble_eq_true rfl, Nat.le_of_ble_eq_true rfl⟩ ⟨Nat.zero_le _, Nat.zero_le _⟩ hl.1 (Nat.le_of_ble_eq_true rfl) dX16_bell_9 (fun H locs hP hS => ?_)
  have J22 : mo_bell_J22 (σ.2.2.1 652) = some (r_, w_zI502, w_aI652) → ∀ (H : Heap) (locs : List Loc), PM D G ad (sgM_bell σ 0 (σ.2.2.1 652)) H → va_S A s.heap H locs → ∀ (ls : Array Slot), lv_has ls 3 [] → W p l e rmM_bell s m args below meth c0 H locs 0 0 Q (F0 m 22 ls []) := by
    intro  hf H locs hP hS ls hl
    unfold mo_bell_J22 at hf
    refine lv_ldc2 hx hb hown (hts _ q1970) dX16_bell_22 ?_
    cases hf
    rw [hQ]; exact p_lret hx hb hr hlk hK hP hS dX16_bell_25
  refine lv_if_eq (tgt := 22) hx hb dX16_bell_12 (by decide) (fun c3 => ?_) (fun c3 => ?_)
  · have hf := ifT c3 hf
    exact J22  hf H locs hP hS ls (lv_sub hl [] rfl)
  · have hf := ifF c3 hf
    refine lv_aload_n hx hb dX16_bell_15 rfl (lv_at hl 0 rfl) ?_
    obtain ⟨v4, u5, hf⟩ := bdP hf
    refine cM_hasEnds E hK hP hS hA sgM_bell_raI611 u5 ⟨Nat.le_of_ble_eq_true rfl, Nat.le_of_ble_eq_true rfl⟩ ⟨Nat.zero_le _, Nat.zero_le _⟩ hl.1 (Nat.le_of_ble_eq_true rfl) dX16_bell_16 (fun H locs hP hS => ?_)
    refine lv_if_ne (tgt := 26) hx hb dX16_bell_19 (by decide) (fun c6 => ?_) (fun c6 => ?_)
    · have hf := ifF c6 hf
      refine lv_iconst hx hb dX16_bell_26 ic_0 ?_
      refine lv_istore_n (lv' := [(2, .int 0), (0, .ref (ad 500)), (1, .int x1)]) hx hb dX16_bell_27 rfl hl (by decide) rfl (fun ls hl => ?_)
      have LP28 : ∀ (st28 : Int32 × (Nat → Int32)) (ex28 : ((Nat → Int32))), loop (mo_bell_L28 (σ.1 522) (σ.1 523) (σ.2.2.1 611) (σ.2.2.1 615) (σ.2.2.1 618) (σ.2.2.1 620) (σ.2.2.1 621) (σ.2.2.1 624) (σ.2.2.1 625) (σ.2.2.2.1 628) x1) st28 = some ex28 → ∀ (H : Heap) (locs : List Loc), PM D G ad (sgM_bell σ 0 (st28.2)) H → va_S A s.heap H locs → ∀ (ls : Array Slot), lv_has ls 3 [(0, .ref (ad 500)), (1, .int x1), (2, .int (st28.1))] → (∀ (a18 : Nat → Int32), ex28 = a18 → ∀ (H : Heap) (locs : List Loc), PM D G ad (sgM_bell σ 0 a18) H → va_S A s.heap H locs → ∀ (ls : Array Slot), lv_has ls 3 [(0, .ref (ad 500)), (1, .int x1)] → W p l e rmM_bell s m args below meth c0 H locs 0 0 Q (F0 m 69 ls [])) → W p l e rmM_bell s m args below meth c0 H locs 0 0 Q (F0 m 28 ls []) := by
        refine loop_P (fun st28 ex28 o28 hf ih28 hx28 => ?_)
        obtain ⟨y7, a8⟩ := st28
        intro H locs (hP : PM D G ad (sgM_bell σ 0 a8) H) hS ls (hl : lv_has ls 3 [(0, .ref (ad 500)), (1, .int x1), (2, .int y7)]) KE28_0
        dsimp only [mo_bell_L28] at hf
        refine lv_iload_n hx hb dX16_bell_28 rfl (lv_at hl 2 rfl) ?_
        refine lv_aload_n hx hb dX16_bell_29 rfl (lv_at hl 0 rfl) ?_
        refine gM_23 (v := (σ.1 523)) E hK hP sgM_bell_rzI523 dX16_bell_30 ?_
        refine lv_icmp_ge (tgt := 69) hx hb dX16_bell_33 (by decide) (fun c9 => ?_) (fun c9 => ?_)
        · have hf := ifT c9 hf
          exact KE28_0 _ (hx28 _ (Option.some.inj hf).symm).symm H locs hP hS ls (lv_sub hl [0, 1] rfl)
        · have hf := ifF c9 hf
          refine lv_aload_n hx hb dX16_bell_36 rfl (lv_at hl 0 rfl) ?_
          refine gM_28 E hK hP dX16_bell_37 ?_
          refine lv_aload_n hx hb dX16_bell_40 rfl (lv_at hl 0 rfl) ?_
          refine gM_25 E hK hP dX16_bell_41 ?_
          refine lv_iload_n hx hb dX16_bell_44 rfl (lv_at hl 2 rfl) ?_
          obtain ⟨v10, hv10, hf⟩ := bdP hf
          refine p_iald hx hb hK hP dM_625 sgM_bell_raI625 hv10 dX16_bell_45 ?_
          obtain ⟨v11, hv11, hf⟩ := bdP hf
          refine p_lald hx hb hK hP dM_628 sgM_bell_raL628 hv11 dX16_bell_46 ?_
          refine lv_lconst hx hb dX16_bell_47 lc_0 ?_
          refine W.lcmp hx hb dX16_bell_48 ?_
          have J63 : ∀ (a12 : Nat → Int32), mo_bell_J63 y7 a12 = some o28 → ∀ (H : Heap) (locs : List Loc), PM D G ad (sgM_bell σ 0 a12) H → va_S A s.heap H locs → ∀ (ls : Array Slot), lv_has ls 3 [(0, .ref (ad 500)), (1, .int x1), (2, .int y7)] → W p l e rmM_bell s m args below meth c0 H locs 0 0 Q (F0 m 63 ls []) := by
            intro a12 hf H locs hP hS ls hl
            unfold mo_bell_J63 at hf
            obtain ⟨v13, hv13, hf⟩ := bdP hf
            refine lv_iinc (v := v13) (lv' := [(2, .int v13), (0, .ref (ad 500)), (1, .int x1)]) hx hb dX16_bell_63 hl (k := 2) rfl (Option.some.inj hv13) (by decide) rfl (fun ls hl => ?_)
            refine lv_goto (tgt := 28) hx hb dX16_bell_66 (by decide) ?_
            exact ih28 _ (Option.some.inj hf).symm H locs hP hS ls (lv_sub hl [1, 2, 0] rfl) KE28_0
          refine lv_if_le (tgt := 63) hx hb dX16_bell_49 (by decide) (fun c14 => ?_) (fun c14 => ?_)
          · have hf := ifT ((lgc_le _ _).mp c14) hf
            exact J63 a8 hf H locs hP hS ls (lv_sub hl [0, 1, 2] rfl)
          · have hf := ifF (mt (lgc_le _ _).mpr c14) hf
            refine lv_aload_n hx hb dX16_bell_52 rfl (lv_at hl 0 rfl) ?_
            refine lv_aload_n hx hb dX16_bell_53 rfl (lv_at hl 0 rfl) ?_
            refine gM_25 E hK hP dX16_bell_54 ?_
            refine lv_iload_n hx hb dX16_bell_57 rfl (lv_at hl 2 rfl) ?_
            obtain ⟨v15, hv15, hf⟩ := bdP hf
            refine p_iald hx hb hK hP dM_625 sgM_bell_raI625 hv15 dX16_bell_58 ?_
            refine lv_iload_n hx hb dX16_bell_59 rfl (lv_at hl 1 rfl) ?_
            obtain ⟨a16, u17, hf⟩ := bdP hf
            refine cM_layBell E hK hP hS hA sgM_bell_rzI522 sgM_bell_raI611 sgM_bell_raI615 sgM_bell_raI618 sgM_bell_raI620 sgM_bell_raI621 sgM_bell_raI624 sgM_bell_raI652 sgM_bell_raL628 u17 ⟨Nat.le_of_ble_eq_true rfl, Nat.le_of_ble_eq_true rfl⟩ ⟨Nat.zero_le _, Nat.zero_le _⟩ hl.1 (Nat.le_of_ble_eq_true rfl) dX16_bell_60 (fun H locs hP hS => ?_)
            rw [sgM_bell_aI652] at hP
            exact J63 a16 hf H locs hP hS ls (lv_sub hl [0, 1, 2] rfl)
      obtain ⟨ex28, hlp28, hf⟩ := bdP hf
      refine LP28 (0, (σ.2.2.1 652)) ex28 hlp28 H locs hP hS ls (lv_sub hl [1, 2, 0] rfl) ?_
      intro a18 hex28 H locs hP hS ls hl
      subst ex28
      refine lv_aload_n hx hb dX16_bell_69 rfl (lv_at hl 0 rfl) ?_
      refine lv_aload_n hx hb dX16_bell_70 rfl (lv_at hl 0 rfl) ?_
      refine gM_11 E hK hP dX16_bell_71 ?_
      refine lv_bipush hx hb dX16_bell_74 bp_6 ?_
      obtain ⟨v19, hv19, hf⟩ := bdP hf
      refine p_iald hx hb hK hP dM_611 sgM_bell_raI611 hv19 dX16_bell_76 ?_
      refine lv_iconst hx hb dX16_bell_77 ic_0 ?_
      refine lv_iload_n hx hb dX16_bell_78 rfl (lv_at hl 1 rfl) ?_
      obtain ⟨v20, u21, hf⟩ := bdP hf
      refine cM_comesInTime E hK hP hS hA sgM_bell_rzI522 sgM_bell_raI611 sgM_bell_raI620 sgM_bell_raI624 sgM_bell_raI652 sgM_bell_raL628 u21 ⟨Nat.le_of_ble_eq_true rfl, Nat.le_of_ble_eq_true rfl⟩ ⟨Nat.zero_le _, Nat.zero_le _⟩ hl.1 (Nat.le_of_ble_eq_true rfl) dX16_bell_79 (fun H locs hP hS => ?_)
      refine lv_i2l hx hb dX16_bell_82 rfl ?_
      cases hf
      rw [hQ]; exact p_lret hx hb hr hlk hK hP hS dX16_bell_83
    · have hf := ifT c6 hf
      exact J22  hf H locs hP hS ls (lv_sub hl [] rfl)
theorem kM_bell (l : Launch) (D : va_G) (G : Nat → ClassId) (ad : Nat → Nat) (σ : Sto) {x1 : Int32} {r_ : Int64} {w_zI502 : Int32} {w_aI652 : Nat → Int32} (hf : mo_bell (σ.1 502) (σ.1 522) (σ.1 523) (σ.2.2.1 611) (σ.2.2.1 615) (σ.2.2.1 618) (σ.2.2.1 620) (σ.2.2.1 621) (σ.2.2.1 624) (σ.2.2.1 625) (σ.2.2.1 652) (σ.2.2.2.1 628) x1 = some (r_, w_zI502, w_aI652)) : CtL l D clsA G dscM ad yX16_bell (ws_ yX16_bell cX16_bell 3 (Option.some Jvm.ClassFile.FieldType.long)) rmM_bell [.ref (ad 500), .int x1] σ r_ (sgM_bell σ w_zI502 w_aI652) :=
  p_ctL (by decide +kernel) (Nat.le_of_ble_eq_true rfl) (fun p e s m below meth c0 ls A E hP hK hA hS hl => wkM_bell E hK hA hf rfl hP hS hl)
/-! knowingSome(I)J -/
def sgM_knowingSome (σ : Sto) (w0 : Nat → Int32) (w1 : Nat → Int32) (w2 : Nat → Int32) (w3 : Nat → Int64) (w4 : Nat → Int64) (w5 : Nat → Int64) : Sto := aL (aL (aL (aI (aI (aI σ 631 w0) 632 w1) 636 w2) 630 w3) 635 w4) 637 w5
theorem sgM_knowingSome_self (σ : Sto) : sgM_knowingSome σ (σ.2.2.1 631) (σ.2.2.1 632) (σ.2.2.1 636) (σ.2.2.2.1 630) (σ.2.2.2.1 635) (σ.2.2.2.1 637) = σ := by
  unfold sgM_knowingSome
  simp only [zI_self, zL_self, aI_self, aL_self]
theorem sgM_knowingSome_aI631 {σ : Sto} {w0 : Nat → Int32} {w1 : Nat → Int32} {w2 : Nat → Int32} {w3 : Nat → Int64} {w4 : Nat → Int64} {w5 : Nat → Int64} {g : Nat → Int32} : aI (sgM_knowingSome σ w0 w1 w2 w3 w4 w5) 631 g = sgM_knowingSome σ g w1 w2 w3 w4 w5 := (cm_aI_aL _ _ _ _ _).trans (congrArg (fun z => aL z 637 w5) ((cm_aI_aL _ _ _ _ _).trans (congrArg (fun z => aL z 635 w4) ((cm_aI_aL _ _ _ _ _).trans (congrArg (fun z => aL z 630 w3) ((aI_comm _ (by decide) _ _).trans (congrArg (fun z => aI z 636 w2) ((aI_comm _ (by decide) _ _).trans (congrArg (fun z => aI z 632 w1) (aI_aI _ 631 _ _))))))))))
theorem sgM_knowingSome_aI632 {σ : Sto} {w0 : Nat → Int32} {w1 : Nat → Int32} {w2 : Nat → Int32} {w3 : Nat → Int64} {w4 : Nat → Int64} {w5 : Nat → Int64} {g : Nat → Int32} : aI (sgM_knowingSome σ w0 w1 w2 w3 w4 w5) 632 g = sgM_knowingSome σ w0 g w2 w3 w4 w5 := (cm_aI_aL _ _ _ _ _).trans (congrArg (fun z => aL z 637 w5) ((cm_aI_aL _ _ _ _ _).trans (congrArg (fun z => aL z 635 w4) ((cm_aI_aL _ _ _ _ _).trans (congrArg (fun z => aL z 630 w3) ((aI_comm _ (by decide) _ _).trans (congrArg (fun z => aI z 636 w2) (aI_aI _ 632 _ _))))))))
theorem sgM_knowingSome_aI636 {σ : Sto} {w0 : Nat → Int32} {w1 : Nat → Int32} {w2 : Nat → Int32} {w3 : Nat → Int64} {w4 : Nat → Int64} {w5 : Nat → Int64} {g : Nat → Int32} : aI (sgM_knowingSome σ w0 w1 w2 w3 w4 w5) 636 g = sgM_knowingSome σ w0 w1 g w3 w4 w5 := (cm_aI_aL _ _ _ _ _).trans (congrArg (fun z => aL z 637 w5) ((cm_aI_aL _ _ _ _ _).trans (congrArg (fun z => aL z 635 w4) ((cm_aI_aL _ _ _ _ _).trans (congrArg (fun z => aL z 630 w3) (aI_aI _ 636 _ _))))))
theorem sgM_knowingSome_aL630 {σ : Sto} {w0 : Nat → Int32} {w1 : Nat → Int32} {w2 : Nat → Int32} {w3 : Nat → Int64} {w4 : Nat → Int64} {w5 : Nat → Int64} {g : Nat → Int64} : aL (sgM_knowingSome σ w0 w1 w2 w3 w4 w5) 630 g = sgM_knowingSome σ w0 w1 w2 g w4 w5 := (aL_comm _ (by decide) _ _).trans (congrArg (fun z => aL z 637 w5) ((aL_comm _ (by decide) _ _).trans (congrArg (fun z => aL z 635 w4) (aL_aL _ 630 _ _))))
theorem sgM_knowingSome_aL635 {σ : Sto} {w0 : Nat → Int32} {w1 : Nat → Int32} {w2 : Nat → Int32} {w3 : Nat → Int64} {w4 : Nat → Int64} {w5 : Nat → Int64} {g : Nat → Int64} : aL (sgM_knowingSome σ w0 w1 w2 w3 w4 w5) 635 g = sgM_knowingSome σ w0 w1 w2 w3 g w5 := (aL_comm _ (by decide) _ _).trans (congrArg (fun z => aL z 637 w5) (aL_aL _ 635 _ _))
theorem sgM_knowingSome_aL637 {σ : Sto} {w0 : Nat → Int32} {w1 : Nat → Int32} {w2 : Nat → Int32} {w3 : Nat → Int64} {w4 : Nat → Int64} {w5 : Nat → Int64} {g : Nat → Int64} : aL (sgM_knowingSome σ w0 w1 w2 w3 w4 w5) 637 g = sgM_knowingSome σ w0 w1 w2 w3 w4 g := aL_aL _ 637 _ _
theorem sgM_knowingSome_rzI522 {σ : Sto} {w0 : Nat → Int32} {w1 : Nat → Int32} {w2 : Nat → Int32} {w3 : Nat → Int64} {w4 : Nat → Int64} {w5 : Nat → Int64} : (sgM_knowingSome σ w0 w1 w2 w3 w4 w5).1 522 = σ.1 522 := rfl
theorem sgM_knowingSome_rzI523 {σ : Sto} {w0 : Nat → Int32} {w1 : Nat → Int32} {w2 : Nat → Int32} {w3 : Nat → Int64} {w4 : Nat → Int64} {w5 : Nat → Int64} : (sgM_knowingSome σ w0 w1 w2 w3 w4 w5).1 523 = σ.1 523 := rfl
theorem sgM_knowingSome_raI611 {σ : Sto} {w0 : Nat → Int32} {w1 : Nat → Int32} {w2 : Nat → Int32} {w3 : Nat → Int64} {w4 : Nat → Int64} {w5 : Nat → Int64} : (sgM_knowingSome σ w0 w1 w2 w3 w4 w5).2.2.1 611 = σ.2.2.1 611 := rfl
theorem sgM_knowingSome_raI615 {σ : Sto} {w0 : Nat → Int32} {w1 : Nat → Int32} {w2 : Nat → Int32} {w3 : Nat → Int64} {w4 : Nat → Int64} {w5 : Nat → Int64} : (sgM_knowingSome σ w0 w1 w2 w3 w4 w5).2.2.1 615 = σ.2.2.1 615 := rfl
theorem sgM_knowingSome_raI618 {σ : Sto} {w0 : Nat → Int32} {w1 : Nat → Int32} {w2 : Nat → Int32} {w3 : Nat → Int64} {w4 : Nat → Int64} {w5 : Nat → Int64} : (sgM_knowingSome σ w0 w1 w2 w3 w4 w5).2.2.1 618 = σ.2.2.1 618 := rfl
theorem sgM_knowingSome_raI620 {σ : Sto} {w0 : Nat → Int32} {w1 : Nat → Int32} {w2 : Nat → Int32} {w3 : Nat → Int64} {w4 : Nat → Int64} {w5 : Nat → Int64} : (sgM_knowingSome σ w0 w1 w2 w3 w4 w5).2.2.1 620 = σ.2.2.1 620 := rfl
theorem sgM_knowingSome_raI621 {σ : Sto} {w0 : Nat → Int32} {w1 : Nat → Int32} {w2 : Nat → Int32} {w3 : Nat → Int64} {w4 : Nat → Int64} {w5 : Nat → Int64} : (sgM_knowingSome σ w0 w1 w2 w3 w4 w5).2.2.1 621 = σ.2.2.1 621 := rfl
theorem sgM_knowingSome_raI624 {σ : Sto} {w0 : Nat → Int32} {w1 : Nat → Int32} {w2 : Nat → Int32} {w3 : Nat → Int64} {w4 : Nat → Int64} {w5 : Nat → Int64} : (sgM_knowingSome σ w0 w1 w2 w3 w4 w5).2.2.1 624 = σ.2.2.1 624 := rfl
theorem sgM_knowingSome_raI625 {σ : Sto} {w0 : Nat → Int32} {w1 : Nat → Int32} {w2 : Nat → Int32} {w3 : Nat → Int64} {w4 : Nat → Int64} {w5 : Nat → Int64} : (sgM_knowingSome σ w0 w1 w2 w3 w4 w5).2.2.1 625 = σ.2.2.1 625 := rfl
theorem sgM_knowingSome_raI631 {σ : Sto} {w0 : Nat → Int32} {w1 : Nat → Int32} {w2 : Nat → Int32} {w3 : Nat → Int64} {w4 : Nat → Int64} {w5 : Nat → Int64} : (sgM_knowingSome σ w0 w1 w2 w3 w4 w5).2.2.1 631 = w0 := rfl
theorem sgM_knowingSome_raI632 {σ : Sto} {w0 : Nat → Int32} {w1 : Nat → Int32} {w2 : Nat → Int32} {w3 : Nat → Int64} {w4 : Nat → Int64} {w5 : Nat → Int64} : (sgM_knowingSome σ w0 w1 w2 w3 w4 w5).2.2.1 632 = w1 := rfl
theorem sgM_knowingSome_raI636 {σ : Sto} {w0 : Nat → Int32} {w1 : Nat → Int32} {w2 : Nat → Int32} {w3 : Nat → Int64} {w4 : Nat → Int64} {w5 : Nat → Int64} : (sgM_knowingSome σ w0 w1 w2 w3 w4 w5).2.2.1 636 = w2 := rfl
theorem sgM_knowingSome_raL628 {σ : Sto} {w0 : Nat → Int32} {w1 : Nat → Int32} {w2 : Nat → Int32} {w3 : Nat → Int64} {w4 : Nat → Int64} {w5 : Nat → Int64} : (sgM_knowingSome σ w0 w1 w2 w3 w4 w5).2.2.2.1 628 = σ.2.2.2.1 628 := rfl
theorem sgM_knowingSome_raL630 {σ : Sto} {w0 : Nat → Int32} {w1 : Nat → Int32} {w2 : Nat → Int32} {w3 : Nat → Int64} {w4 : Nat → Int64} {w5 : Nat → Int64} : (sgM_knowingSome σ w0 w1 w2 w3 w4 w5).2.2.2.1 630 = w3 := rfl
theorem sgM_knowingSome_raL634 {σ : Sto} {w0 : Nat → Int32} {w1 : Nat → Int32} {w2 : Nat → Int32} {w3 : Nat → Int64} {w4 : Nat → Int64} {w5 : Nat → Int64} : (sgM_knowingSome σ w0 w1 w2 w3 w4 w5).2.2.2.1 634 = σ.2.2.2.1 634 := rfl
theorem sgM_knowingSome_raL635 {σ : Sto} {w0 : Nat → Int32} {w1 : Nat → Int32} {w2 : Nat → Int32} {w3 : Nat → Int64} {w4 : Nat → Int64} {w5 : Nat → Int64} : (sgM_knowingSome σ w0 w1 w2 w3 w4 w5).2.2.2.1 635 = w4 := rfl
theorem sgM_knowingSome_raL637 {σ : Sto} {w0 : Nat → Int32} {w1 : Nat → Int32} {w2 : Nat → Int32} {w3 : Nat → Int64} {w4 : Nat → Int64} {w5 : Nat → Int64} : (sgM_knowingSome σ w0 w1 w2 w3 w4 w5).2.2.2.1 637 = w5 := rfl
abbrev rmM_knowingSome : Room := { frames := 7, cells := 0, slots := 0, locals := 176 }
set_option maxHeartbeats 4000000 in
theorem wkM_knowingSome {x1 : Int32} {r_ : Int64} {w_aI631 : Nat → Int32} {w_aI632 : Nat → Int32} {w_aI636 : Nat → Int32} {w_aL630 : Nat → Int64} {w_aL635 : Nat → Int64} {w_aL637 : Nat → Int64} (E : EN p s m args meth c0 RX16 cX16_knowingSome 8 (Option.some Jvm.ClassFile.FieldType.long)) (hK : KK D clsA G s) (hA : ∀ q, PA dscM ad s.heap.size q → A q) (hf : mo_knowingSome (σ.1 522) (σ.1 523) (σ.2.2.1 611) (σ.2.2.1 615) (σ.2.2.1 618) (σ.2.2.1 620) (σ.2.2.1 621) (σ.2.2.1 624) (σ.2.2.1 625) (σ.2.2.1 631) (σ.2.2.1 632) (σ.2.2.1 636) (σ.2.2.2.1 628) (σ.2.2.2.1 630) (σ.2.2.2.1 634) (σ.2.2.2.1 635) (σ.2.2.2.1 637) x1 = some (r_, w_aI631, w_aI632, w_aI636, w_aL630, w_aL635, w_aL637)) (hQ : Q = MQ below (va_Ql (fun x (_ : Unit) => x = r_) (fun _ t => PM D G ad (sgM_knowingSome σ w_aI631 w_aI632 w_aI636 w_aL630 w_aL635 w_aL637) t.heap ∧ KK D clsA G t) A) args s 0 0 A) (hP : PM D G ad σ H) (hS : va_S A s.heap H locs) (hl : lv_has ls 8 [(0, .ref (ad 500)), (1, .int x1)]) : W p l e rmM_knowingSome s m args below meth c0 H locs 0 0 Q (F0 m 0 ls []) := by
  obtain ⟨⟨hx, hb, hml, hown, hts⟩, hr, hlk⟩ := id E
  have hP := hP.to (sgM_knowingSome_self σ).symm
  unfold mo_knowingSome at hf
  refine lv_aload_n hx hb dX16_knowingSome_0 rfl (lv_at hl 0 rfl) ?_
  obtain ⟨⟨a1, a2, a3, a4, a5, a6⟩, u7, hf⟩ := bdP hf
  dsimp only at hf
  refine cM_layBest E hK hP hS hA sgM_knowingSome_rzI523 sgM_knowingSome_raI611 sgM_knowingSome_raI615 sgM_knowingSome_raI618 sgM_knowingSome_raI620 sgM_knowingSome_raI621 sgM_knowingSome_raI624 sgM_knowingSome_raI625 sgM_knowingSome_raI631 sgM_knowingSome_raI632 sgM_knowingSome_raI636 sgM_knowingSome_raL628 sgM_knowingSome_raL630 sgM_knowingSome_raL634 sgM_knowingSome_raL635 sgM_knowingSome_raL637 u7 ⟨Nat.le_of_ble_eq_true rfl, Nat.le_of_ble_eq_true rfl⟩ ⟨Nat.zero_le _, Nat.zero_le _⟩ hl.1 (Nat.le_of_ble_eq_true rfl) dX16_knowingSome_1 (fun H locs hP hS => ?_)
  rw [sgM_knowingSome_aI631, sgM_knowingSome_aI632, sgM_knowingSome_aI636, sgM_knowingSome_aL630, sgM_knowingSome_aL635, sgM_knowingSome_aL637] at hP
  refine lv_lconst hx hb dX16_knowingSome_4 lc_0 ?_
  refine lv_lstore_n (lv' := [(2, .long 0), (0, .ref (ad 500)), (1, .int x1)]) hx hb dX16_knowingSome_5 rfl hl (by decide) rfl (fun ls hl => ?_)
  refine lv_iconst hx hb dX16_knowingSome_6 ic_0 ?_
  refine lv_istore (lv' := [(4, .int 0), (2, .long 0), (0, .ref (ad 500)), (1, .int x1)]) hx hb dX16_knowingSome_7 hl (by decide) rfl (fun ls hl => ?_)
  have LP9 : ∀ (st9 : Int64 × Int32) (ex9 : (Unit) ⊕ (Int64)), loop (mo_knowingSome_L9 (σ.1 522) (σ.2.2.1 611) (σ.2.2.1 620) (σ.2.2.1 624) (σ.2.2.2.1 628) x1 a4) st9 = some ex9 → ∀ (H : Heap) (locs : List Loc), PM D G ad (sgM_knowingSome σ a1 a2 a3 a4 a5 a6) H → va_S A s.heap H locs → ∀ (ls : Array Slot), lv_has ls 8 [(0, .ref (ad 500)), (1, .int x1), (2, .long (st9.1)), (4, .int (st9.2))] → (ex9 = (.inl (())) → ∀ (H : Heap) (locs : List Loc), PM D G ad (sgM_knowingSome σ a1 a2 a3 a4 a5 a6) H → va_S A s.heap H locs → ∀ (ls : Array Slot), lv_has ls 8 [] → W p l e rmM_knowingSome s m args below meth c0 H locs 0 0 Q (F0 m 124 ls [])) → (∀ (y32 : Int64), ex9 = (.inr y32) → ∀ (H : Heap) (locs : List Loc), PM D G ad (sgM_knowingSome σ a1 a2 a3 a4 a5 a6) H → va_S A s.heap H locs → ∀ (ls : Array Slot), lv_has ls 8 [(2, .long y32)] → W p l e rmM_knowingSome s m args below meth c0 H locs 0 0 Q (F0 m 139 ls [])) → W p l e rmM_knowingSome s m args below meth c0 H locs 0 0 Q (F0 m 9 ls []) := by
    refine loop_P (fun st9 ex9 o9 hf ih9 hx9 => ?_)
    obtain ⟨y8, y9⟩ := st9
    intro H locs (hP : PM D G ad (sgM_knowingSome σ a1 a2 a3 a4 a5 a6) H) hS ls (hl : lv_has ls 8 [(0, .ref (ad 500)), (1, .int x1), (2, .long y8), (4, .int y9)]) KE9_0 KE9_1
    dsimp only [mo_knowingSome_L9] at hf
    refine lv_iload hx hb dX16_knowingSome_9 (lv_at hl 3 rfl) ?_
    refine lv_aload_n hx hb dX16_knowingSome_11 rfl (lv_at hl 0 rfl) ?_
    refine gM_22 (v := (σ.1 522)) E hK hP sgM_knowingSome_rzI522 dX16_knowingSome_12 ?_
    refine lv_icmp_ge (tgt := 139) hx hb dX16_knowingSome_15 (by decide) (fun c10 => ?_) (fun c10 => ?_)
    · have hf := ifT c10 hf
      exact KE9_1 _ (hx9 _ (Option.some.inj hf).symm).symm H locs hP hS ls (lv_sub hl [2] rfl)
    · have hf := ifF c10 hf
      refine lv_iload hx hb dX16_knowingSome_18 (lv_at hl 3 rfl) ?_
      refine lv_iload_n hx hb dX16_knowingSome_20 rfl (lv_at hl 1 rfl) ?_
      refine lv_iconst hx hb dX16_knowingSome_21 ic_m1 ?_
      refine lv_ixor hx hb dX16_knowingSome_22 ?_
      refine lv_iand hx hb dX16_knowingSome_23 ?_
      have J133 : ∀ (y11 : Int64), mo_knowingSome_J133 y9 y11 = some o9 → ∀ (H : Heap) (locs : List Loc), PM D G ad (sgM_knowingSome σ a1 a2 a3 a4 a5 a6) H → va_S A s.heap H locs → ∀ (ls : Array Slot), lv_has ls 8 [(0, .ref (ad 500)), (1, .int x1), (2, .long y11), (4, .int y9)] → W p l e rmM_knowingSome s m args below meth c0 H locs 0 0 Q (F0 m 133 ls []) := by
        intro y11 hf H locs hP hS ls hl
        unfold mo_knowingSome_J133 at hf
        obtain ⟨v12, hv12, hf⟩ := bdP hf
        refine lv_iinc (v := v12) (lv' := [(4, .int v12), (0, .ref (ad 500)), (1, .int x1), (2, .long y11)]) hx hb dX16_knowingSome_133 hl (k := 3) rfl (Option.some.inj hv12) (by decide) rfl (fun ls hl => ?_)
        refine lv_goto (tgt := 9) hx hb dX16_knowingSome_136 (by decide) ?_
        exact ih9 _ (Option.some.inj hf).symm H locs hP hS ls (lv_sub hl [1, 2, 3, 0] rfl) KE9_0 KE9_1
      refine lv_if_eq (tgt := 30) hx hb dX16_knowingSome_24 (by decide) (fun c13 => ?_) (fun c13 => ?_)
      · have hf := ifT c13 hf
        refine lv_iconst hx hb dX16_knowingSome_30 ic_0 ?_
        refine lv_istore (lv' := [(5, .int 0), (0, .ref (ad 500)), (1, .int x1), (2, .long y8), (4, .int y9)]) hx hb dX16_knowingSome_31 hl (by decide) rfl (fun ls hl => ?_)
        refine lv_iconst hx hb dX16_knowingSome_33 ic_0 ?_
        refine lv_istore (lv' := [(6, .int 0), (5, .int 0), (0, .ref (ad 500)), (1, .int x1), (2, .long y8), (4, .int y9)]) hx hb dX16_knowingSome_34 hl (by decide) rfl (fun ls hl => ?_)
        have LP36 : ∀ (st36 : Int32 × Int32) (ex36 : (Int32)), loop (mo_knowingSome_L36 (σ.2.2.1 611) (σ.2.2.1 624) x1 y9) st36 = some ex36 → ∀ (H : Heap) (locs : List Loc), PM D G ad (sgM_knowingSome σ a1 a2 a3 a4 a5 a6) H → va_S A s.heap H locs → ∀ (ls : Array Slot), lv_has ls 8 [(0, .ref (ad 500)), (1, .int x1), (2, .long y8), (4, .int y9), (5, .int (st36.1)), (6, .int (st36.2))] → (∀ (y24 : Int32), ex36 = y24 → ∀ (H : Heap) (locs : List Loc), PM D G ad (sgM_knowingSome σ a1 a2 a3 a4 a5 a6) H → va_S A s.heap H locs → ∀ (ls : Array Slot), lv_has ls 8 [(0, .ref (ad 500)), (1, .int x1), (2, .long y8), (4, .int y9), (5, .int y24)] → W p l e rmM_knowingSome s m args below meth c0 H locs 0 0 Q (F0 m 83 ls [])) → W p l e rmM_knowingSome s m args below meth c0 H locs 0 0 Q (F0 m 36 ls []) := by
          refine loop_P (fun st36 ex36 o36 hf ih36 hx36 => ?_)
          obtain ⟨y14, y15⟩ := st36
          intro H locs (hP : PM D G ad (sgM_knowingSome σ a1 a2 a3 a4 a5 a6) H) hS ls (hl : lv_has ls 8 [(0, .ref (ad 500)), (1, .int x1), (2, .long y8), (4, .int y9), (5, .int y14), (6, .int y15)]) KE36_0
          dsimp only [mo_knowingSome_L36] at hf
          refine lv_iload hx hb dX16_knowingSome_36 (lv_at hl 5 rfl) ?_
          refine lv_aload_n hx hb dX16_knowingSome_38 rfl (lv_at hl 0 rfl) ?_
          obtain ⟨v16, u17, hf⟩ := bdP hf
          refine cM_doubts E hK hP hS hA sgM_knowingSome_raI611 u17 ⟨Nat.le_of_ble_eq_true rfl, Nat.le_of_ble_eq_true rfl⟩ ⟨Nat.zero_le _, Nat.zero_le _⟩ hl.1 (Nat.le_of_ble_eq_true rfl) dX16_knowingSome_39 (fun H locs hP hS => ?_)
          refine lv_icmp_ge (tgt := 83) hx hb dX16_knowingSome_42 (by decide) (fun c18 => ?_) (fun c18 => ?_)
          · have hf := ifT c18 hf
            exact KE36_0 _ (hx36 _ (Option.some.inj hf).symm).symm H locs hP hS ls (lv_sub hl [0, 1, 2, 3, 4] rfl)
          · have hf := ifF c18 hf
            refine lv_iload_n hx hb dX16_knowingSome_45 rfl (lv_at hl 1 rfl) ?_
            refine lv_iload hx hb dX16_knowingSome_46 (lv_at hl 5 rfl) ?_
            refine lv_ishr hx hb dX16_knowingSome_48 ?_
            refine lv_iconst hx hb dX16_knowingSome_49 ic_1 ?_
            refine lv_iand hx hb dX16_knowingSome_50 ?_
            refine lv_iconst hx hb dX16_knowingSome_51 ic_1 ?_
            have J77 : ∀ (y19 : Int32), mo_knowingSome_J77 y15 y19 = some o36 → ∀ (H : Heap) (locs : List Loc), PM D G ad (sgM_knowingSome σ a1 a2 a3 a4 a5 a6) H → va_S A s.heap H locs → ∀ (ls : Array Slot), lv_has ls 8 [(0, .ref (ad 500)), (1, .int x1), (2, .long y8), (4, .int y9), (5, .int y19), (6, .int y15)] → W p l e rmM_knowingSome s m args below meth c0 H locs 0 0 Q (F0 m 77 ls []) := by
              intro y19 hf H locs hP hS ls hl
              unfold mo_knowingSome_J77 at hf
              obtain ⟨v20, hv20, hf⟩ := bdP hf
              refine lv_iinc (v := v20) (lv' := [(6, .int v20), (0, .ref (ad 500)), (1, .int x1), (2, .long y8), (4, .int y9), (5, .int y19)]) hx hb dX16_knowingSome_77 hl (k := 5) rfl (Option.some.inj hv20) (by decide) rfl (fun ls hl => ?_)
              refine lv_goto (tgt := 36) hx hb dX16_knowingSome_80 (by decide) ?_
              exact ih36 _ (Option.some.inj hf).symm H locs hP hS ls (lv_sub hl [1, 2, 3, 4, 5, 0] rfl) KE36_0
            refine lv_icmp_ne (tgt := 77) hx hb dX16_knowingSome_52 (by decide) (fun c21 => ?_) (fun c21 => ?_)
            · have hf := ifF c21 hf
              exact J77 y14 hf H locs hP hS ls (lv_sub hl [0, 1, 2, 3, 4, 5] rfl)
            · have hf := ifT c21 hf
              refine lv_iload hx hb dX16_knowingSome_55 (lv_at hl 4 rfl) ?_
              refine lv_iload hx hb dX16_knowingSome_57 (lv_at hl 3 rfl) ?_
              refine lv_iload hx hb dX16_knowingSome_59 (lv_at hl 5 rfl) ?_
              refine lv_ishr hx hb dX16_knowingSome_61 ?_
              refine lv_iconst hx hb dX16_knowingSome_62 ic_1 ?_
              refine lv_iand hx hb dX16_knowingSome_63 ?_
              refine lv_iconst hx hb dX16_knowingSome_64 ic_1 ?_
              refine lv_iadd hx hb dX16_knowingSome_65 ?_
              refine lv_aload_n hx hb dX16_knowingSome_66 rfl (lv_at hl 0 rfl) ?_
              refine gM_24 E hK hP dX16_knowingSome_67 ?_
              refine lv_iload hx hb dX16_knowingSome_70 (lv_at hl 5 rfl) ?_
              obtain ⟨v22, hv22, hf⟩ := bdP hf
              refine p_iald hx hb hK hP dM_624 sgM_knowingSome_raI624 hv22 dX16_knowingSome_72 ?_
              refine lv_imul hx hb dX16_knowingSome_73 ?_
              refine lv_iadd hx hb dX16_knowingSome_74 ?_
              obtain ⟨v23, hv23, hf⟩ := bdP hf
              refine nm_i (Option.some.inj hv23) ?_
              refine lv_istore (lv' := [(5, .int v23), (0, .ref (ad 500)), (1, .int x1), (2, .long y8), (4, .int y9), (6, .int y15)]) hx hb dX16_knowingSome_75 hl (by decide) rfl (fun ls hl => ?_)
              exact J77 v23 hf H locs hP hS ls (lv_sub hl [1, 2, 3, 4, 0, 5] rfl)
        obtain ⟨ex36, hlp36, hf⟩ := bdP hf
        refine LP36 (0, 0) ex36 hlp36 H locs hP hS ls (lv_sub hl [2, 3, 4, 5, 1, 0] rfl) ?_
        intro y24 hex36 H locs hP hS ls hl
        subst ex36
        refine lv_aload_n hx hb dX16_knowingSome_83 rfl (lv_at hl 0 rfl) ?_
        refine gM_28 E hK hP dX16_knowingSome_84 ?_
        refine lv_iload hx hb dX16_knowingSome_87 (lv_at hl 4 rfl) ?_
        obtain ⟨v25, hv25, hf⟩ := bdP hf
        refine p_lald hx hb hK hP dM_628 sgM_knowingSome_raL628 hv25 dX16_knowingSome_89 ?_
        refine lv_lconst hx hb dX16_knowingSome_90 lc_0 ?_
        refine W.lcmp hx hb dX16_knowingSome_91 ?_
        refine lv_if_ne (tgt := 98) hx hb dX16_knowingSome_92 (by decide) (fun c26 => ?_) (fun c26 => ?_)
        · have hf := ifF (mt (lgc_eq _ _).mpr c26) hf
          refine lv_aload_n hx hb dX16_knowingSome_98 rfl (lv_at hl 0 rfl) ?_
          refine lv_iconst hx hb dX16_knowingSome_99 ic_0 ?_
          refine lv_iconst hx hb dX16_knowingSome_100 ic_1 ?_
          refine lv_aload_n hx hb dX16_knowingSome_101 rfl (lv_at hl 0 rfl) ?_
          refine gM_11 E hK hP dX16_knowingSome_102 ?_
          refine lv_bipush hx hb dX16_knowingSome_105 bp_6 ?_
          obtain ⟨v27, hv27, hf⟩ := bdP hf
          refine p_iald hx hb hK hP dM_611 sgM_knowingSome_raI611 hv27 dX16_knowingSome_107 ?_
          refine lv_iload hx hb dX16_knowingSome_108 (lv_at hl 4 rfl) ?_
          obtain ⟨v28, u29, hf⟩ := bdP hf
          refine cM_arrives E hK hP hS hA sgM_knowingSome_raI611 sgM_knowingSome_raI620 sgM_knowingSome_raI624 sgM_knowingSome_raL628 sgM_knowingSome_raL630 u29 ⟨Nat.le_of_ble_eq_true rfl, Nat.le_of_ble_eq_true rfl⟩ ⟨Nat.zero_le _, Nat.zero_le _⟩ hl.1 (Nat.le_of_ble_eq_true rfl) dX16_knowingSome_110 (fun H locs hP hS => ?_)
          refine lv_lstore (lv' := [(6, .long v28), (0, .ref (ad 500)), (1, .int x1), (2, .long y8), (4, .int y9), (5, .int y24)]) hx hb dX16_knowingSome_113 hl (by decide) rfl (fun ls hl => ?_)
          refine lv_lload hx hb dX16_knowingSome_115 (lv_at hl 0 rfl) ?_
          refine lv_ldc2 hx hb hown (hts _ q2050) dX16_knowingSome_117 ?_
          refine W.lcmp hx hb dX16_knowingSome_120 ?_
          refine lv_if_lt (tgt := 128) hx hb dX16_knowingSome_121 (by decide) (fun c30 => ?_) (fun c30 => ?_)
          · have hf := ifT ((lgc_lt _ _).mp c30) hf
            refine lv_lload_n hx hb dX16_knowingSome_128 rfl (lv_at hl 3 rfl) ?_
            refine lv_lload hx hb dX16_knowingSome_129 (lv_at hl 0 rfl) ?_
            refine lv_ladd hx hb dX16_knowingSome_131 ?_
            obtain ⟨v31, hv31, hf⟩ := bdP hf
            refine nm_l (Option.some.inj hv31) ?_
            refine lv_lstore_n (lv' := [(2, .long v31), (6, .long v28), (0, .ref (ad 500)), (1, .int x1), (4, .int y9), (5, .int y24)]) hx hb dX16_knowingSome_132 rfl hl (by decide) rfl (fun ls hl => ?_)
            exact J133 v31 hf H locs hP hS ls (lv_sub hl [2, 3, 0, 4] rfl)
          · have hf := ifF (mt (lgc_lt _ _).mpr c30) hf
            exact KE9_0  (hx9 _ (Option.some.inj hf).symm).symm H locs hP hS ls (lv_sub hl [] rfl)
        · have hf := ifT ((lgc_eq _ _).mp c26) hf
          refine lv_goto (tgt := 133) hx hb dX16_knowingSome_95 (by decide) ?_
          exact J133 y8 hf H locs hP hS ls (lv_sub hl [0, 1, 2, 3] rfl)
      · have hf := ifF c13 hf
        refine lv_goto (tgt := 133) hx hb dX16_knowingSome_27 (by decide) ?_
        exact J133 y8 hf H locs hP hS ls (lv_sub hl [0, 1, 2, 3] rfl)
  obtain ⟨ex9, hlp9, hf⟩ := bdP hf
  refine LP9 (0, 0) ex9 hlp9 H locs hP hS ls (lv_sub hl [2, 3, 1, 0] rfl) ?_ ?_
  · intro  hex9 H locs hP hS ls hl
    subst ex9
    dsimp only [sE_l, sE_r] at hf
    refine lv_ldc2 hx hb hown (hts _ q2050) dX16_knowingSome_124 ?_
    cases hf
    rw [hQ]; exact p_lret hx hb hr hlk hK hP hS dX16_knowingSome_127
  · intro y32 hex9 H locs hP hS ls hl
    subst ex9
    dsimp only [sE_l, sE_r] at hf
    refine lv_lload_n hx hb dX16_knowingSome_139 rfl (lv_at hl 0 rfl) ?_
    cases hf
    rw [hQ]; exact p_lret hx hb hr hlk hK hP hS dX16_knowingSome_140
theorem kM_knowingSome (l : Launch) (D : va_G) (G : Nat → ClassId) (ad : Nat → Nat) (σ : Sto) {x1 : Int32} {r_ : Int64} {w_aI631 : Nat → Int32} {w_aI632 : Nat → Int32} {w_aI636 : Nat → Int32} {w_aL630 : Nat → Int64} {w_aL635 : Nat → Int64} {w_aL637 : Nat → Int64} (hf : mo_knowingSome (σ.1 522) (σ.1 523) (σ.2.2.1 611) (σ.2.2.1 615) (σ.2.2.1 618) (σ.2.2.1 620) (σ.2.2.1 621) (σ.2.2.1 624) (σ.2.2.1 625) (σ.2.2.1 631) (σ.2.2.1 632) (σ.2.2.1 636) (σ.2.2.2.1 628) (σ.2.2.2.1 630) (σ.2.2.2.1 634) (σ.2.2.2.1 635) (σ.2.2.2.1 637) x1 = some (r_, w_aI631, w_aI632, w_aI636, w_aL630, w_aL635, w_aL637)) : CtL l D clsA G dscM ad yX16_knowingSome (ws_ yX16_knowingSome cX16_knowingSome 8 (Option.some Jvm.ClassFile.FieldType.long)) rmM_knowingSome [.ref (ad 500), .int x1] σ r_ (sgM_knowingSome σ w_aI631 w_aI632 w_aI636 w_aL630 w_aL635 w_aL637) :=
  p_ctL (by decide +kernel) (Nat.le_of_ble_eq_true rfl) (fun p e s m below meth c0 ls A E hP hK hA hS hl => wkM_knowingSome E hK hA hf rfl hP hS hl)
theorem cM_knowingSome (E : EN p s m args meth c0 RX16 cc nL ret) (hK : KK D clsA G s) (hP : PM D G ad σ H) (hS : va_S A s.heap H locs) (hA : ∀ q, PA dscM ad s.heap.size q → A q) {x1 : Int32} {r_ : Int64} {w_aI631 : Nat → Int32} {w_aI632 : Nat → Int32} {w_aI636 : Nat → Int32} {w_aL630 : Nat → Int64} {w_aL635 : Nat → Int64} {w_aL637 : Nat → Int64} {z_worlds : Int32} (e_zI522 : σ.1 522 = z_worlds) {z_knowings : Int32} (e_zI523 : σ.1 523 = z_knowings) {a_many : Nat → Int32} (e_aI611 : σ.2.2.1 611 = a_many) {a_road : Nat → Int32} (e_aI615 : σ.2.2.1 615 = a_road) {a_word : Nat → Int32} (e_aI618 : σ.2.2.1 618 = a_word) {a_seen : Nat → Int32} (e_aI620 : σ.2.2.1 620 = a_seen) {a_between : Nat → Int32} (e_aI621 : σ.2.2.1 621 = a_between) {a_three : Nat → Int32} (e_aI624 : σ.2.2.1 624 = a_three) {a_turn : Nat → Int32} (e_aI625 : σ.2.2.1 625 = a_turn) {a_act : Nat → Int32} (e_aI631 : σ.2.2.1 631 = a_act) {a_isLaid : Nat → Int32} (e_aI632 : σ.2.2.1 632 = a_isLaid) {a_isNews : Nat → Int32} (e_aI636 : σ.2.2.1 636 = a_isNews) {a_likely : Nat → Int64} (e_aL628 : σ.2.2.2.1 628 = a_likely) {a_value : Nat → Int64} (e_aL630 : σ.2.2.2.1 630 = a_value) {a_term : Nat → Int64} (e_aL634 : σ.2.2.2.1 634 = a_term) {a_coming : Nat → Int64} (e_aL635 : σ.2.2.2.1 635 = a_coming) {a_bought : Nat → Int64} (e_aL637 : σ.2.2.2.1 637 = a_bought) (hu : mo_knowingSome z_worlds z_knowings a_many a_road a_word a_seen a_between a_three a_turn a_act a_isLaid a_isNews a_likely a_value a_term a_coming a_bought x1 = some (r_, w_aI631, w_aI632, w_aI636, w_aL630, w_aL635, w_aL637)) (hR : rmM_knowingSome.frames + 1 ≤ R.frames ∧ 8 + (8 + 11) + rmM_knowingSome.locals ≤ R.locals) (hcs : cells ≤ R.cells ∧ slots ≤ R.slots) (hsz : ls.size = nL) (hW : (rest.map fun v => v.category).sum ≤ 8) (hdg : decode cc pc = .ok (.invokevirtual 457, 3)) (kk : ∀ (H1 : Heap) (locs1 : List Loc), PM D G ad (aL (aL (aL (aI (aI (aI σ 631 w_aI631) 632 w_aI632) 636 w_aI636) 630 w_aL630) 635 w_aL635) 637 w_aL637) H1 → va_S A s.heap H1 locs1 → W p l e R s m args below meth c0 H1 locs1 cells slots Q (F0 m (pc + 3) ls (.long r_ :: rest))) : W p l e R s m args below meth c0 H locs cells slots Q (F0 m pc ls (.int x1 :: .ref (ad 500) :: rest)) := by
  subst e_zI522
  subst e_zI523
  subst e_aI611
  subst e_aI615
  subst e_aI618
  subst e_aI620
  subst e_aI621
  subst e_aI624
  subst e_aI625
  subst e_aI631
  subst e_aI632
  subst e_aI636
  subst e_aL628
  subst e_aL630
  subst e_aL634
  subst e_aL635
  subst e_aL637
  exact p_callL (As := [.int x1]) (rest := rest) E.1 hK hP hS hA (kM_knowingSome l D G ad σ hu) (cwV 1 E.1.2.2.2.2 (lw_V q2225 q2227 qs120 q142 q2228) rfl rfl rfl (by decide +kernel) hR) dM_500 rfl rfl rfl hsz rfl hW hdg hcs kk
end MWALK
