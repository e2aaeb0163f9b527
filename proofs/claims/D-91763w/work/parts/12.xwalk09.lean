section XWALK
variable {p : Program} {l : Launch} {e : Env} {R : Room} {s : State} {m : MethodId} {args : Array Value} {below : List Frame} {meth : Method} {c0 : Code} {H : Heap} {locs : List Loc} {cells slots : Nat} {Q : State → Prop}
variable {cc : ByteArray} {nL : Nat} {ret : Option FieldType} {pc : Nat} {ls : Array Slot} {rest : List Value} {D : va_G} {A : Nat → Prop} {G : Nat → ClassId} {dsc : Nat → Option Dsc} {ad : Nat → Nat} {σ : Sto} {nr nw nu : Nat}
theorem gx_X1_120_1000 (E : EN p s m args meth c0 RX1 cc nL ret) (hX : KX D G ad A s s.heap) (hD : XD dsc nr nw nu) (hP : PIC D clsA G dsc ad σ H) (hdg : decode cc pc = .ok (.getfield 120, 3)) (kk : W p l e R s m args below meth c0 H locs cells slots Q (F0 m (pc + 3) ls (.ref (ad 1125) :: rest))) : W p l e R s m args below meth c0 H locs cells slots Q (F0 m pc ls (.ref (ad 1000) :: rest)) :=
  p_get E.1.1 E.1.2.1 E.1.2.2.2.2 in_X1 E.1.2.2.2.1 hX.1 hP (hD.1 _ _ dX_1000) rfl 25 (by decide) (E.1.2.2.2.2 _ q537) (fun _ h => h) rfl rfl hdg kk
/-! X1_ring_2 (II)I -/
def sgX1_ring_2 (σ : Sto) (w0 : Nat → Int32) : Sto := aI σ 1125 w0
theorem sgX1_ring_2_self (σ : Sto) : sgX1_ring_2 σ (σ.2.2.1 1125) = σ := by
  unfold sgX1_ring_2
  simp only [zI_self, zL_self, aI_self, aL_self]
theorem sgX1_ring_2_aI1125 {σ : Sto} {w0 : Nat → Int32} {g : Nat → Int32} : aI (sgX1_ring_2 σ w0) 1125 g = sgX1_ring_2 σ g := aI_aI _ 1125 _ _
theorem sgX1_ring_2_rzI1262 {σ : Sto} {w0 : Nat → Int32} : (sgX1_ring_2 σ w0).1 1262 = σ.1 1262 := rfl
theorem sgX1_ring_2_rzI2012 {σ : Sto} {w0 : Nat → Int32} : (sgX1_ring_2 σ w0).1 2012 = σ.1 2012 := rfl
theorem sgX1_ring_2_rzI2013 {σ : Sto} {w0 : Nat → Int32} : (sgX1_ring_2 σ w0).1 2013 = σ.1 2013 := rfl
theorem sgX1_ring_2_rzI2027 {σ : Sto} {w0 : Nat → Int32} : (sgX1_ring_2 σ w0).1 2027 = σ.1 2027 := rfl
theorem sgX1_ring_2_raI1125 {σ : Sto} {w0 : Nat → Int32} : (sgX1_ring_2 σ w0).2.2.1 1125 = w0 := rfl
theorem sgX1_ring_2_raI1170 {σ : Sto} {w0 : Nat → Int32} : (sgX1_ring_2 σ w0).2.2.1 1170 = σ.2.2.1 1170 := rfl
theorem sgX1_ring_2_raI1265 {σ : Sto} {w0 : Nat → Int32} : (sgX1_ring_2 σ w0).2.2.1 1265 = σ.2.2.1 1265 := rfl
theorem sgX1_ring_2_raI2043 {σ : Sto} {w0 : Nat → Int32} : (sgX1_ring_2 σ w0).2.2.1 2043 = σ.2.2.1 2043 := rfl
theorem sgX1_ring_2_rpR2 {σ : Sto} {w0 : Nat → Int32} : (fun k => (sgX1_ring_2 σ w0).1 (6000 + 16 * k + 2)) = (fun k => σ.1 (6000 + 16 * k + 2)) := by
  funext k
  unfold sgX1_ring_2
  dsimp only [zI, zL, aI, aL]
  repeat rw [if_neg (by omega)]
theorem sgX1_ring_2_rpR5 {σ : Sto} {w0 : Nat → Int32} : (fun k => (sgX1_ring_2 σ w0).1 (6000 + 16 * k + 5)) = (fun k => σ.1 (6000 + 16 * k + 5)) := by
  funext k
  unfold sgX1_ring_2
  dsimp only [zI, zL, aI, aL]
  repeat rw [if_neg (by omega)]
theorem sgX1_ring_2_rpR6 {σ : Sto} {w0 : Nat → Int32} : (fun k => (sgX1_ring_2 σ w0).1 (6000 + 16 * k + 6)) = (fun k => σ.1 (6000 + 16 * k + 6)) := by
  funext k
  unfold sgX1_ring_2
  dsimp only [zI, zL, aI, aL]
  repeat rw [if_neg (by omega)]
theorem sgX1_ring_2_rpU0 {σ : Sto} {w0 : Nat → Int32} : (fun k => (sgX1_ring_2 σ w0).1 (10000 + 16 * k + 0)) = (fun k => σ.1 (10000 + 16 * k + 0)) := by
  funext k
  unfold sgX1_ring_2
  dsimp only [zI, zL, aI, aL]
  repeat rw [if_neg (by omega)]
theorem sgX1_ring_2_rpU1 {σ : Sto} {w0 : Nat → Int32} : (fun k => (sgX1_ring_2 σ w0).1 (10000 + 16 * k + 1)) = (fun k => σ.1 (10000 + 16 * k + 1)) := by
  funext k
  unfold sgX1_ring_2
  dsimp only [zI, zL, aI, aL]
  repeat rw [if_neg (by omega)]
theorem sgX1_ring_2_rpU2 {σ : Sto} {w0 : Nat → Int32} : (fun k => (sgX1_ring_2 σ w0).1 (10000 + 16 * k + 2)) = (fun k => σ.1 (10000 + 16 * k + 2)) := by
  funext k
  unfold sgX1_ring_2
  dsimp only [zI, zL, aI, aL]
  repeat rw [if_neg (by omega)]
theorem sgX1_ring_2_rpU3 {σ : Sto} {w0 : Nat → Int32} : (fun k => (sgX1_ring_2 σ w0).1 (10000 + 16 * k + 3)) = (fun k => σ.1 (10000 + 16 * k + 3)) := by
  funext k
  unfold sgX1_ring_2
  dsimp only [zI, zL, aI, aL]
  repeat rw [if_neg (by omega)]
theorem sgX1_ring_2_rgG0 {σ : Sto} {w0 : Nat → Int32} : (fun k => (sgX1_ring_2 σ w0).2.2.1 (4000 + 16 * k)) = (fun k => σ.2.2.1 (4000 + 16 * k)) := by
  funext k
  unfold sgX1_ring_2
  dsimp only [zI, zL, aI, aL]
  repeat rw [if_neg (by omega)]
abbrev rmX1_ring_2 : Room := { frames := 4, cells := 0, slots := 0, locals := 88 }
set_option maxHeartbeats 4000000 in
theorem wkX1_ring_2 {x1 : Int32} {x2 : Int32} {r_ : Int32} {w_aI1125 : Nat → Int32} (E : EN p s m args meth c0 RX1 cX1_ring_2 10 (Option.some Jvm.ClassFile.FieldType.int)) (hX : KX D G ad A s s.heap) (hD : XD dsc nr nw nu) (hA : ∀ q, PA dsc ad s.heap.size q → A q) (hf : xo_X1_ring_2 (σ.1 1262) (σ.1 2012) (σ.1 2013) (σ.1 2027) (σ.2.2.1 1125) (σ.2.2.1 1170) (σ.2.2.1 1265) (σ.2.2.1 2043) nr nu (fun k => σ.1 (6000 + 16 * k + 2)) (fun k => σ.1 (6000 + 16 * k + 5)) (fun k => σ.1 (6000 + 16 * k + 6)) (fun k => σ.1 (10000 + 16 * k + 0)) (fun k => σ.1 (10000 + 16 * k + 1)) (fun k => σ.1 (10000 + 16 * k + 2)) (fun k => σ.1 (10000 + 16 * k + 3)) (fun k => σ.2.2.1 (4000 + 16 * k)) x1 x2 = some (r_, w_aI1125)) (hQ : Q = MQ below (va_G1 (some (.int r_)) (fun t => PIC D clsA G dsc ad (sgX1_ring_2 σ w_aI1125) t.heap) A) args s 0 0 A) (hP : PIC D clsA G dsc ad σ H) (hS : va_S A s.heap H locs) (hl : lv_has ls 10 [(0, .ref (ad 1000)), (1, .int x1), (2, .int x2)]) : W p l e rmX1_ring_2 s m args below meth c0 H locs 0 0 Q (F0 m 0 ls []) := by
  obtain ⟨⟨hx, hb, hml, hown, hts⟩, hr, hlk⟩ := id E
  have hP := hP.to (sgX1_ring_2_self σ).symm
  unfold xo_X1_ring_2 at hf
  refine lv_aload_n hx hb dX1_ring_2_0 rfl (lv_at hl 0 rfl) ?_
  refine gx_X1_113_1000 E hX hD hP dX1_ring_2_1 ?_
  refine lv_bipush hx hb dX1_ring_2_4 bp_6 ?_
  refine p_aald7 (v := 6) hx hb hX.1 hP (hD.1 _ _ dX_1117) (by decide) dX1_ring_2_6 ?_
  refine p_nn (by decide) ?_
  refine p_ad (c2 := 1496) (by decide) ?_
  refine lv_astore_n (lv' := [(3, .ref (ad 1496)), (0, .ref (ad 1000)), (1, .int x1), (2, .int x2)]) hx hb dX1_ring_2_7 rfl hl (by decide) rfl (fun ls hl => ?_)
  refine lv_aload_n hx hb dX1_ring_2_8 rfl (lv_at hl 1 rfl) ?_
  refine gx_X1_33_1000 E hX hD hP dX1_ring_2_9 ?_
  refine gx_X1_253_2000 (v := (σ.1 2012)) E hX hD hP sgX1_ring_2_rzI2012 dX1_ring_2_12 ?_
  refine lv_istore (lv' := [(4, .int (σ.1 2012)), (3, .ref (ad 1496)), (0, .ref (ad 1000)), (1, .int x1), (2, .int x2)]) hx hb dX1_ring_2_15 hl (by decide) rfl (fun ls hl => ?_)
  refine lv_aload_n hx hb dX1_ring_2_17 rfl (lv_at hl 2 rfl) ?_
  refine lv_iload hx hb dX1_ring_2_18 (lv_at hl 0 rfl) ?_
  refine lv_iconst hx hb dX1_ring_2_20 ic_0 ?_
  refine lv_iload_n hx hb dX1_ring_2_21 rfl (lv_at hl 4 rfl) ?_
  obtain ⟨v1, u2, hf⟩ := bdP hf
  refine cx_X1_377_X1_seeing E hX hD hP hS hA (kxX1_seeing l D G hD sgX1_ring_2_rzI2027 sgX1_ring_2_raI1170 sgX1_ring_2_raI2043 u2) ⟨rfl, rfl⟩ ⟨Nat.le_of_ble_eq_true rfl, Nat.le_of_ble_eq_true rfl⟩ ⟨Nat.zero_le _, Nat.zero_le _⟩ hl.1 (Nat.le_of_ble_eq_true rfl) dX1_ring_2_22 (fun H locs hP hS => ?_)
  refine lv_istore (lv' := [(5, .int v1), (4, .int (σ.1 2012)), (3, .ref (ad 1496)), (0, .ref (ad 1000)), (1, .int x1), (2, .int x2)]) hx hb dX1_ring_2_25 hl (by decide) rfl (fun ls hl => ?_)
  refine lv_iconst hx hb dX1_ring_2_27 ic_0 ?_
  refine lv_istore (lv' := [(6, .int 0), (5, .int v1), (4, .int (σ.1 2012)), (3, .ref (ad 1496)), (0, .ref (ad 1000)), (1, .int x1), (2, .int x2)]) hx hb dX1_ring_2_28 hl (by decide) rfl (fun ls hl => ?_)
  have LP30 : ∀ (st30 : Int32 × Int32 × Int32 × (Nat → Int32)) (ex30 : (Int32 × (Nat → Int32)) ⊕ (Int32 × Int32 × (Nat → Int32))), loop (xo_X1_ring_2_L30 (σ.1 1262) (σ.1 2013) (σ.1 2027) (σ.2.2.1 1170) (σ.2.2.1 1265) (σ.2.2.1 2043) nr nu (fun k => σ.1 (6000 + 16 * k + 2)) (fun k => σ.1 (6000 + 16 * k + 5)) (fun k => σ.1 (6000 + 16 * k + 6)) (fun k => σ.1 (10000 + 16 * k + 0)) (fun k => σ.1 (10000 + 16 * k + 1)) (fun k => σ.1 (10000 + 16 * k + 2)) (fun k => σ.1 (10000 + 16 * k + 3)) (fun k => σ.2.2.1 (4000 + 16 * k)) x2) st30 = some ex30 → ∀ (H : Heap) (locs : List Loc), PIC D clsA G dsc ad (sgX1_ring_2 σ (st30.2.2.2)) H → va_S A s.heap H locs → ∀ (ls : Array Slot), lv_has ls 10 [(0, .ref (ad 1000)), (1, .int x1), (2, .int x2), (3, .ref (ad 1496)), (4, .int (st30.1)), (5, .int (st30.2.1)), (6, .int (st30.2.2.1))] → (∀ (y23 : Int32) (a24 : Nat → Int32), ex30 = (.inl ((y23, a24))) → ∀ (H : Heap) (locs : List Loc), PIC D clsA G dsc ad (sgX1_ring_2 σ a24) H → va_S A s.heap H locs → ∀ (ls : Array Slot), lv_has ls 10 [(1, .int x1), (4, .int y23)] → W p l e rmX1_ring_2 s m args below meth c0 H locs 0 0 Q (F0 m 75 ls [])) → (∀ (y25 : Int32) (y26 : Int32) (a27 : Nat → Int32), ex30 = (.inr (y25, y26, a27)) → ∀ (H : Heap) (locs : List Loc), PIC D clsA G dsc ad (sgX1_ring_2 σ a27) H → va_S A s.heap H locs → ∀ (ls : Array Slot), lv_has ls 10 [(0, .ref (ad 1000)), (1, .int x1), (6, .int y25), (7, .int y26)] → W p l e rmX1_ring_2 s m args below meth c0 H locs 0 0 Q (F0 m 93 ls [])) → W p l e rmX1_ring_2 s m args below meth c0 H locs 0 0 Q (F0 m 30 ls []) := by
    refine loop_P (fun st30 ex30 o30 hf ih30 hx30 => ?_)
    obtain ⟨y3, y4, y5, a6⟩ := st30
    intro H locs (hP : PIC D clsA G dsc ad (sgX1_ring_2 σ a6) H) hS ls (hl : lv_has ls 10 [(0, .ref (ad 1000)), (1, .int x1), (2, .int x2), (3, .ref (ad 1496)), (4, .int y3), (5, .int y4), (6, .int y5)]) KE30_0 KE30_1
    dsimp only [xo_X1_ring_2_L30] at hf
    refine lv_iconst hx hb dX1_ring_2_30 ic_0 ?_
    refine lv_istore (lv' := [(7, .int 0), (0, .ref (ad 1000)), (1, .int x1), (2, .int x2), (3, .ref (ad 1496)), (4, .int y3), (5, .int y4), (6, .int y5)]) hx hb dX1_ring_2_31 hl (by decide) rfl (fun ls hl => ?_)
    have LP33 : ∀ (st33 : Int32) (ex33 : (Int32)), loop (xo_X1_ring_2_L33 y3 y5 a6) st33 = some ex33 → ∀ (H : Heap) (locs : List Loc), PIC D clsA G dsc ad (sgX1_ring_2 σ a6) H → va_S A s.heap H locs → ∀ (ls : Array Slot), lv_has ls 10 [(0, .ref (ad 1000)), (1, .int x1), (2, .int x2), (3, .ref (ad 1496)), (4, .int y3), (5, .int y4), (6, .int y5), (7, .int st33)] → (∀ (y12 : Int32), ex33 = y12 → ∀ (H : Heap) (locs : List Loc), PIC D clsA G dsc ad (sgX1_ring_2 σ a6) H → va_S A s.heap H locs → ∀ (ls : Array Slot), lv_has ls 10 [(0, .ref (ad 1000)), (1, .int x1), (2, .int x2), (3, .ref (ad 1496)), (4, .int y3), (5, .int y4), (6, .int y5), (7, .int y12)] → W p l e rmX1_ring_2 s m args below meth c0 H locs 0 0 Q (F0 m 58 ls [])) → W p l e rmX1_ring_2 s m args below meth c0 H locs 0 0 Q (F0 m 33 ls []) := by
      refine loop_P (fun st33 ex33 o33 hf ih33 hx33 => ?_)
      obtain ⟨y7, rfl⟩ : ∃ z, z = st33 := ⟨_, rfl⟩
      intro H locs (hP : PIC D clsA G dsc ad (sgX1_ring_2 σ a6) H) hS ls (hl : lv_has ls 10 [(0, .ref (ad 1000)), (1, .int x1), (2, .int x2), (3, .ref (ad 1496)), (4, .int y3), (5, .int y4), (6, .int y5), (7, .int y7)]) KE33_0
      dsimp only [xo_X1_ring_2_L33] at hf
      refine lv_iload hx hb dX1_ring_2_33 (lv_at hl 7 rfl) ?_
      refine lv_iload hx hb dX1_ring_2_35 (lv_at hl 6 rfl) ?_
      refine lv_icmp_ge (tgt := 58) hx hb dX1_ring_2_37 (by decide) (fun c8 => ?_) (fun c8 => ?_)
      · have hf := ifT c8 hf
        exact KE33_0 _ (hx33 _ (Option.some.inj hf).symm).symm H locs hP hS ls (lv_sub hl [0, 1, 2, 3, 4, 5, 6, 7] rfl)
      · have hf := ifF c8 hf
        refine lv_aload_n hx hb dX1_ring_2_40 rfl (lv_at hl 0 rfl) ?_
        refine gx_X1_120_1000 E hX hD hP dX1_ring_2_41 ?_
        refine lv_iload hx hb dX1_ring_2_44 (lv_at hl 7 rfl) ?_
        obtain ⟨v9, hv9, hf⟩ := bdP hf
        refine p_iald hx hb hX.1 hP (hD.1 _ _ dX_1125) sgX1_ring_2_raI1125 hv9 dX1_ring_2_46 ?_
        refine lv_iload hx hb dX1_ring_2_47 (lv_at hl 4 rfl) ?_
        refine lv_icmp_eq (tgt := 58) hx hb dX1_ring_2_49 (by decide) (fun c10 => ?_) (fun c10 => ?_)
        · have hf := ifT c10 hf
          exact KE33_0 _ (hx33 _ (Option.some.inj hf).symm).symm H locs hP hS ls (lv_sub hl [0, 1, 2, 3, 4, 5, 6, 7] rfl)
        · have hf := ifF c10 hf
          obtain ⟨v11, hv11, hf⟩ := bdP hf
          refine lv_iinc (v := v11) (lv' := [(7, .int v11), (0, .ref (ad 1000)), (1, .int x1), (2, .int x2), (3, .ref (ad 1496)), (4, .int y3), (5, .int y4), (6, .int y5)]) hx hb dX1_ring_2_52 hl (k := 7) rfl (Option.some.inj hv11) (by decide) rfl (fun ls hl => ?_)
          refine lv_goto (tgt := 33) hx hb dX1_ring_2_55 (by decide) ?_
          exact ih33 _ (Option.some.inj hf).symm H locs hP hS ls (lv_sub hl [1, 2, 3, 4, 5, 6, 7, 0] rfl) KE33_0
    obtain ⟨ex33, hlp33, hf⟩ := bdP hf
    refine LP33 0 ex33 hlp33 H locs hP hS ls (lv_sub hl [1, 2, 3, 4, 5, 6, 7, 0] rfl) ?_
    intro y12 hex33 H locs hP hS ls hl
    subst ex33
    refine lv_aload_n hx hb dX1_ring_2_58 rfl (lv_at hl 3 rfl) ?_
    refine lv_iload hx hb dX1_ring_2_59 (lv_at hl 4 rfl) ?_
    refine lv_iload hx hb dX1_ring_2_61 (lv_at hl 5 rfl) ?_
    obtain ⟨v13, u14, hf⟩ := bdP hf
    refine cx_X1_336_X15_next_p6 E hX hD hP hS hA (kxX15_next_p6 l D G hD sgX1_ring_2_rzI1262 sgX1_ring_2_rzI2013 sgX1_ring_2_raI1170 sgX1_ring_2_raI1265 rfl rfl sgX1_ring_2_rpR2 sgX1_ring_2_rpR5 sgX1_ring_2_rpR6 sgX1_ring_2_rpU0 sgX1_ring_2_rpU1 sgX1_ring_2_rpU2 sgX1_ring_2_rpU3 sgX1_ring_2_rgG0 u14) ⟨rfl, rfl⟩ ⟨Nat.le_of_ble_eq_true rfl, Nat.le_of_ble_eq_true rfl⟩ ⟨Nat.zero_le _, Nat.zero_le _⟩ hl.1 (Nat.le_of_ble_eq_true rfl) dX1_ring_2_63 (fun H locs hP hS => ?_)
    refine lv_istore (lv' := [(8, .int v13), (0, .ref (ad 1000)), (1, .int x1), (2, .int x2), (3, .ref (ad 1496)), (4, .int y3), (5, .int y4), (6, .int y5), (7, .int y12)]) hx hb dX1_ring_2_66 hl (by decide) rfl (fun ls hl => ?_)
    refine lv_iload hx hb dX1_ring_2_68 (lv_at hl 0 rfl) ?_
    refine lv_bipush hx hb dX1_ring_2_70 bp_m2 ?_
    refine lv_icmp_ne (tgt := 86) hx hb dX1_ring_2_72 (by decide) (fun c15 => ?_) (fun c15 => ?_)
    · have hf := ifF c15 hf
      refine lv_iload hx hb dX1_ring_2_86 (lv_at hl 8 rfl) ?_
      refine lv_iload hx hb dX1_ring_2_88 (lv_at hl 7 rfl) ?_
      refine lv_icmp_ge (tgt := 116) hx hb dX1_ring_2_90 (by decide) (fun c16 => ?_) (fun c16 => ?_)
      · have hf := ifT c16 hf
        refine lv_aload_n hx hb dX1_ring_2_116 rfl (lv_at hl 1 rfl) ?_
        refine gx_X1_120_1000 E hX hD hP dX1_ring_2_117 ?_
        refine lv_iload hx hb dX1_ring_2_120 (lv_at hl 7 rfl) ?_
        obtain ⟨v17, hv17, hf⟩ := bdP hf
        refine lv_iinc (v := v17) (lv' := [(6, .int v17), (8, .int v13), (0, .ref (ad 1000)), (1, .int x1), (2, .int x2), (3, .ref (ad 1496)), (4, .int y3), (5, .int y4), (7, .int y12)]) hx hb dX1_ring_2_122 hl (k := 7) rfl (Option.some.inj hv17) (by decide) rfl (fun ls hl => ?_)
        refine lv_iload hx hb dX1_ring_2_125 (lv_at hl 6 rfl) ?_
        obtain ⟨a18, ha18, hf⟩ := bdP hf
        refine p_iast hx hb hX.1 hP hS (hA _ (PA_c (hD.1 _ _ dX_1125))) (hD.1 _ _ dX_1125) sgX1_ring_2_raI1125 ha18 sgX1_ring_2_aI1125 dX1_ring_2_127 (fun H locs hP hS => ?_)
        refine lv_iload hx hb dX1_ring_2_128 (lv_at hl 7 rfl) ?_
        refine lv_istore (lv' := [(9, .int y4), (6, .int v17), (8, .int v13), (0, .ref (ad 1000)), (1, .int x1), (2, .int x2), (3, .ref (ad 1496)), (4, .int y3), (5, .int y4), (7, .int y12)]) hx hb dX1_ring_2_130 hl (by decide) rfl (fun ls hl => ?_)
        refine lv_iload hx hb dX1_ring_2_132 (lv_at hl 2 rfl) ?_
        refine lv_istore (lv' := [(4, .int v13), (9, .int y4), (6, .int v17), (8, .int v13), (0, .ref (ad 1000)), (1, .int x1), (2, .int x2), (3, .ref (ad 1496)), (5, .int y4), (7, .int y12)]) hx hb dX1_ring_2_134 hl (by decide) rfl (fun ls hl => ?_)
        refine lv_aload_n hx hb dX1_ring_2_136 rfl (lv_at hl 4 rfl) ?_
        refine lv_iload hx hb dX1_ring_2_137 (lv_at hl 0 rfl) ?_
        refine lv_iload hx hb dX1_ring_2_139 (lv_at hl 8 rfl) ?_
        refine lv_iload_n hx hb dX1_ring_2_141 rfl (lv_at hl 6 rfl) ?_
        obtain ⟨v19, u20, hf⟩ := bdP hf
        refine cx_X1_377_X1_seeing E hX hD hP hS hA (kxX1_seeing l D G hD sgX1_ring_2_rzI2027 sgX1_ring_2_raI1170 sgX1_ring_2_raI2043 u20) ⟨rfl, rfl⟩ ⟨Nat.le_of_ble_eq_true rfl, Nat.le_of_ble_eq_true rfl⟩ ⟨Nat.zero_le _, Nat.zero_le _⟩ hl.1 (Nat.le_of_ble_eq_true rfl) dX1_ring_2_142 (fun H locs hP hS => ?_)
        refine lv_istore (lv' := [(5, .int v19), (4, .int v13), (9, .int y4), (6, .int v17), (8, .int v13), (0, .ref (ad 1000)), (1, .int x1), (2, .int x2), (3, .ref (ad 1496)), (7, .int y12)]) hx hb dX1_ring_2_145 hl (by decide) rfl (fun ls hl => ?_)
        refine lv_iload hx hb dX1_ring_2_147 (lv_at hl 0 rfl) ?_
        refine lv_iload hx hb dX1_ring_2_149 (lv_at hl 2 rfl) ?_
        have J157 : ∀ (y21 : Int32), xo_X1_ring_2_J157 v13 a18 v19 y21 = some o30 → ∀ (H : Heap) (locs : List Loc), PIC D clsA G dsc ad (sgX1_ring_2 σ a18) H → va_S A s.heap H locs → ∀ (ls : Array Slot), lv_has ls 10 [(0, .ref (ad 1000)), (1, .int x1), (2, .int x2), (3, .ref (ad 1496)), (4, .int v13), (5, .int v19), (6, .int y21)] → W p l e rmX1_ring_2 s m args below meth c0 H locs 0 0 Q (F0 m 157 ls []) := by
          intro y21 hf H locs hP hS ls hl
          unfold xo_X1_ring_2_J157 at hf
          refine lv_goto (tgt := 30) hx hb dX1_ring_2_157 (by decide) ?_
          exact ih30 _ (Option.some.inj hf).symm H locs hP hS ls (lv_sub hl [0, 1, 2, 3, 4, 5, 6] rfl) KE30_0 KE30_1
        refine lv_icmp_eq (tgt := 157) hx hb dX1_ring_2_151 (by decide) (fun c22 => ?_) (fun c22 => ?_)
        · have hf := ifT c22 hf
          exact J157 v17 hf H locs hP hS ls (lv_sub hl [5, 6, 7, 8, 1, 0, 3] rfl)
        · have hf := ifF c22 hf
          refine lv_iconst hx hb dX1_ring_2_154 ic_0 ?_
          refine lv_istore (lv' := [(6, .int 0), (5, .int v19), (4, .int v13), (9, .int y4), (8, .int v13), (0, .ref (ad 1000)), (1, .int x1), (2, .int x2), (3, .ref (ad 1496)), (7, .int y12)]) hx hb dX1_ring_2_155 hl (by decide) rfl (fun ls hl => ?_)
          exact J157 0 hf H locs hP hS ls (lv_sub hl [5, 6, 7, 8, 2, 1, 0] rfl)
      · have hf := ifF c16 hf
        exact KE30_1 _ _ _ (hx30 _ (Option.some.inj hf).symm).symm H locs hP hS ls (lv_sub hl [1, 2, 7, 8] rfl)
    · have hf := ifT c15 hf
      exact KE30_0 _ _ (hx30 _ (Option.some.inj hf).symm).symm H locs hP hS ls (lv_sub hl [2, 5] rfl)
  obtain ⟨ex30, hlp30, hf⟩ := bdP hf
  refine LP30 ((σ.1 2012), v1, 0, (σ.2.2.1 1125)) ex30 hlp30 H locs hP hS ls (lv_sub hl [4, 5, 6, 3, 2, 1, 0] rfl) ?_ ?_
  · intro y23 a24 hex30 H locs hP hS ls hl
    subst ex30
    dsimp only [sE_l, sE_r] at hf
    refine lv_iload_n hx hb dX1_ring_2_75 rfl (lv_at hl 0 rfl) ?_
    refine lv_if_ne (tgt := 84) hx hb dX1_ring_2_76 (by decide) (fun c28 => ?_) (fun c28 => ?_)
    · have hf := ifF c28 hf
      refine lv_iconst hx hb dX1_ring_2_84 ic_m1 ?_
      cases hf
      rw [hQ]; exact g_iret hx hb hr hlk hP hS dX1_ring_2_85
    · have hf := ifT c28 hf
      refine lv_iload hx hb dX1_ring_2_79 (lv_at hl 1 rfl) ?_
      refine lv_goto (tgt := 85) hx hb dX1_ring_2_81 (by decide) ?_
      cases hf
      rw [hQ]; exact g_iret hx hb hr hlk hP hS dX1_ring_2_85
  · intro y25 y26 a27 hex30 H locs hP hS ls hl
    subst ex30
    dsimp only [sE_l, sE_r] at hf
    refine lv_iload_n hx hb dX1_ring_2_93 rfl (lv_at hl 1 rfl) ?_
    refine lv_iload hx hb dX1_ring_2_94 (lv_at hl 2 rfl) ?_
    refine lv_iload hx hb dX1_ring_2_96 (lv_at hl 3 rfl) ?_
    refine lv_isub hx hb dX1_ring_2_98 ?_
    refine lv_icmp_ge (tgt := 114) hx hb dX1_ring_2_99 (by decide) (fun c29 => ?_) (fun c29 => ?_)
    · have hf := ifT c29 hf
      refine lv_iconst hx hb dX1_ring_2_114 ic_m1 ?_
      cases hf
      rw [hQ]; exact g_iret hx hb hr hlk hP hS dX1_ring_2_115
    · have hf := ifF c29 hf
      refine lv_aload_n hx hb dX1_ring_2_102 rfl (lv_at hl 0 rfl) ?_
      refine gx_X1_120_1000 E hX hD hP dX1_ring_2_103 ?_
      refine lv_iload hx hb dX1_ring_2_106 (lv_at hl 3 rfl) ?_
      refine lv_iload_n hx hb dX1_ring_2_108 rfl (lv_at hl 1 rfl) ?_
      refine lv_iadd hx hb dX1_ring_2_109 ?_
      obtain ⟨v30, hv30, hf⟩ := bdP hf
      refine p_iald hx hb hX.1 hP (hD.1 _ _ dX_1125) sgX1_ring_2_raI1125 hv30 dX1_ring_2_110 ?_
      refine lv_goto (tgt := 115) hx hb dX1_ring_2_111 (by decide) ?_
      cases hf
      rw [hQ]; exact g_iret hx hb hr hlk hP hS dX1_ring_2_115
theorem kxX1_ring_2 (l : Launch) (D : va_G) (G : Nat → ClassId) {dsc : Nat → Option Dsc} {ad : Nat → Nat} {σ : Sto} {nr nw nu : Nat} (hD : XD dsc nr nw nu) {x1 : Int32} {x2 : Int32} {r_ : Int32} {w_aI1125 : Nat → Int32} {z_ru_size : Int32} (e_zI1262 : σ.1 1262 = z_ru_size) {z_L_from : Int32} (e_zI2012 : σ.1 2012 = z_L_from) {z_L_to : Int32} (e_zI2013 : σ.1 2013 = z_L_to) {z_Ld_size : Int32} (e_zI2027 : σ.1 2027 = z_Ld_size) {a_X_path : Nat → Int32} (e_aI1125 : σ.2.2.1 1125 = a_X_path) {a_UNIT : Nat → Int32} (e_aI1170 : σ.2.2.1 1170 = a_UNIT) {a_ru_data : Nat → Int32} (e_aI1265 : σ.2.2.1 1265 = a_ru_data) {a_L_seen : Nat → Int32} (e_aI2043 : σ.2.2.1 2043 = a_L_seen) {n_r : Nat} (e_nN0 : nr = n_r) {n_u : Nat} (e_nN2 : nu = n_u) {p_road_hours : Nat → Int32} (e_pR2 : (fun k => σ.1 (6000 + 16 * k + 2)) = p_road_hours) {p_road_wait : Nat → Int32} (e_pR5 : (fun k => σ.1 (6000 + 16 * k + 5)) = p_road_wait) {p_road_number : Nat → Int32} (e_pR6 : (fun k => σ.1 (6000 + 16 * k + 6)) = p_road_number) {p_rule_place : Nat → Int32} (e_pU0 : (fun k => σ.1 (10000 + 16 * k + 0)) = p_rule_place) {p_rule_road : Nat → Int32} (e_pU1 : (fun k => σ.1 (10000 + 16 * k + 1)) = p_rule_road) {p_rule_known : Nat → Int32} (e_pU2 : (fun k => σ.1 (10000 + 16 * k + 2)) = p_rule_known) {p_rule_to : Nat → Int32} (e_pU3 : (fun k => σ.1 (10000 + 16 * k + 3)) = p_rule_to) {g_grid : Nat → Nat → Int32} (e_gG0 : (fun k => σ.2.2.1 (4000 + 16 * k)) = g_grid) (hf : xo_X1_ring_2 z_ru_size z_L_from z_L_to z_Ld_size a_X_path a_UNIT a_ru_data a_L_seen n_r n_u p_road_hours p_road_wait p_road_number p_rule_place p_rule_road p_rule_known p_rule_to g_grid x1 x2 = some (r_, w_aI1125)) : CtG l D G dsc ad yX1_ring_2 (ws_ yX1_ring_2 cX1_ring_2 10 (Option.some Jvm.ClassFile.FieldType.int)) rmX1_ring_2 [.ref (ad 1000), .int x1, .int x2] σ (some (.int r_)) (aI σ 1125 w_aI1125) := by
  subst e_zI1262
  subst e_zI2012
  subst e_zI2013
  subst e_zI2027
  subst e_aI1125
  subst e_aI1170
  subst e_aI1265
  subst e_aI2043
  subst e_nN0
  subst e_nN2
  subst e_pR2
  subst e_pR5
  subst e_pR6
  subst e_pU0
  subst e_pU1
  subst e_pU2
  subst e_pU3
  subst e_gG0
  exact p_ctG (by decide +kernel) (Nat.le_of_ble_eq_true rfl) (fun p e s m below meth c0 ls A E hP hX hA hS hl => wkX1_ring_2 E hX hD hA hf rfl hP hS hl)
theorem cx_X1_374_X1_ring_2 {rm : Room} {σ1 : Sto} {x1 : Int32} {x2 : Int32} {r : Int32} (E : EN p s m args meth c0 RX1 cc nL ret) (hX : KX D G ad A s s.heap) (hD : XD dsc nr nw nu) (hP : PIC D clsA G dsc ad σ H) (hS : va_S A s.heap H locs) (hA : ∀ q, PA dsc ad s.heap.size q → A q) (hM : CtG l D G dsc ad yX1_ring_2 (ws_ yX1_ring_2 cX1_ring_2 10 (Option.some Jvm.ClassFile.FieldType.int)) rm [.ref (ad 1000), .int x1, .int x2] σ (some (.int r)) σ1) (hz : rm.cells = 0 ∧ rm.slots = 0) (hR : rm.frames + 1 ≤ R.frames ∧ 8 + (10 + 11) + rm.locals ≤ R.locals) (hcs : cells ≤ R.cells ∧ slots ≤ R.slots) (hsz : ls.size = nL) (hW : (rest.map fun v => v.category).sum ≤ 8) (hdg : decode cc pc = .ok (.invokevirtual 374, 3)) (kk : ∀ (H1 : Heap) (locs1 : List Loc), PIC D clsA G dsc ad σ1 H1 → va_S A s.heap H1 locs1 → W p l e R s m args below meth c0 H1 locs1 cells slots Q (F0 m (pc + 3) ls (.int r :: rest))) : W p l e R s m args below meth c0 H locs cells slots Q (F0 m pc ls (.int x2 :: .int x1 :: .ref (ad 1000) :: rest)) :=
  p_gV (As := [.int x1, .int x2]) (rest := rest) E.1 hX hP hS hA hM (cwV 2 E.1.2.2.2.2 (lw_V q1437 q1439 qs35 q124 q1440) rfl hz.1 hz.2 (by decide +kernel) hR) (hD.1 _ _ dX_1000) rfl rfl rfl hsz rfl hW hdg hcs kk
/-! X1_ring (I)I -/
def sgX1_ring (σ : Sto) (w0 : Int32) (w1 : Int32) (w2 : Int32) (w3 : Int64) (w4 : Nat → Int32) (w5 : Nat → Int32) (w6 : Nat → Int32) (w7 : Nat → Int64) (w8 : Nat → Int64) (w9 : Nat → Int64) (w10 : Nat → Int64) : Sto := aL (aL (aL (aL (aI (aI (aI (zL (zI (zI (zI σ 1018 w0) 1062 w1) 1082 w2) 1052 w3) 1108 w4) 1125 w5) 1162 w6) 1140 w7) 1141 w8) 1150 w9) 1152 w10
theorem sgX1_ring_self (σ : Sto) : sgX1_ring σ (σ.1 1018) (σ.1 1062) (σ.1 1082) (σ.2.1 1052) (σ.2.2.1 1108) (σ.2.2.1 1125) (σ.2.2.1 1162) (σ.2.2.2.1 1140) (σ.2.2.2.1 1141) (σ.2.2.2.1 1150) (σ.2.2.2.1 1152) = σ := by
  unfold sgX1_ring
  simp only [zI_self, zL_self, aI_self, aL_self]
theorem sgX1_ring_zI1018 {σ : Sto} {w0 : Int32} {w1 : Int32} {w2 : Int32} {w3 : Int64} {w4 : Nat → Int32} {w5 : Nat → Int32} {w6 : Nat → Int32} {w7 : Nat → Int64} {w8 : Nat → Int64} {w9 : Nat → Int64} {w10 : Nat → Int64} {g : Int32} : zI (sgX1_ring σ w0 w1 w2 w3 w4 w5 w6 w7 w8 w9 w10) 1018 g = sgX1_ring σ g w1 w2 w3 w4 w5 w6 w7 w8 w9 w10 := (cm_zI_aL _ _ _ _ _).trans (congrArg (fun z => aL z 1152 w10) ((cm_zI_aL _ _ _ _ _).trans (congrArg (fun z => aL z 1150 w9) ((cm_zI_aL _ _ _ _ _).trans (congrArg (fun z => aL z 1141 w8) ((cm_zI_aL _ _ _ _ _).trans (congrArg (fun z => aL z 1140 w7) ((cm_zI_aI _ _ _ _ _).trans (congrArg (fun z => aI z 1162 w6) ((cm_zI_aI _ _ _ _ _).trans (congrArg (fun z => aI z 1125 w5) ((cm_zI_aI _ _ _ _ _).trans (congrArg (fun z => aI z 1108 w4) ((cm_zI_zL _ _ _ _ _).trans (congrArg (fun z => zL z 1052 w3) ((zI_comm _ (by decide) _ _).trans (congrArg (fun z => zI z 1082 w2) ((zI_comm _ (by decide) _ _).trans (congrArg (fun z => zI z 1062 w1) (zI_zI _ 1018 _ _))))))))))))))))))))
theorem sgX1_ring_zI1062 {σ : Sto} {w0 : Int32} {w1 : Int32} {w2 : Int32} {w3 : Int64} {w4 : Nat → Int32} {w5 : Nat → Int32} {w6 : Nat → Int32} {w7 : Nat → Int64} {w8 : Nat → Int64} {w9 : Nat → Int64} {w10 : Nat → Int64} {g : Int32} : zI (sgX1_ring σ w0 w1 w2 w3 w4 w5 w6 w7 w8 w9 w10) 1062 g = sgX1_ring σ w0 g w2 w3 w4 w5 w6 w7 w8 w9 w10 := (cm_zI_aL _ _ _ _ _).trans (congrArg (fun z => aL z 1152 w10) ((cm_zI_aL _ _ _ _ _).trans (congrArg (fun z => aL z 1150 w9) ((cm_zI_aL _ _ _ _ _).trans (congrArg (fun z => aL z 1141 w8) ((cm_zI_aL _ _ _ _ _).trans (congrArg (fun z => aL z 1140 w7) ((cm_zI_aI _ _ _ _ _).trans (congrArg (fun z => aI z 1162 w6) ((cm_zI_aI _ _ _ _ _).trans (congrArg (fun z => aI z 1125 w5) ((cm_zI_aI _ _ _ _ _).trans (congrArg (fun z => aI z 1108 w4) ((cm_zI_zL _ _ _ _ _).trans (congrArg (fun z => zL z 1052 w3) ((zI_comm _ (by decide) _ _).trans (congrArg (fun z => zI z 1082 w2) (zI_zI _ 1062 _ _))))))))))))))))))
theorem sgX1_ring_zI1082 {σ : Sto} {w0 : Int32} {w1 : Int32} {w2 : Int32} {w3 : Int64} {w4 : Nat → Int32} {w5 : Nat → Int32} {w6 : Nat → Int32} {w7 : Nat → Int64} {w8 : Nat → Int64} {w9 : Nat → Int64} {w10 : Nat → Int64} {g : Int32} : zI (sgX1_ring σ w0 w1 w2 w3 w4 w5 w6 w7 w8 w9 w10) 1082 g = sgX1_ring σ w0 w1 g w3 w4 w5 w6 w7 w8 w9 w10 := (cm_zI_aL _ _ _ _ _).trans (congrArg (fun z => aL z 1152 w10) ((cm_zI_aL _ _ _ _ _).trans (congrArg (fun z => aL z 1150 w9) ((cm_zI_aL _ _ _ _ _).trans (congrArg (fun z => aL z 1141 w8) ((cm_zI_aL _ _ _ _ _).trans (congrArg (fun z => aL z 1140 w7) ((cm_zI_aI _ _ _ _ _).trans (congrArg (fun z => aI z 1162 w6) ((cm_zI_aI _ _ _ _ _).trans (congrArg (fun z => aI z 1125 w5) ((cm_zI_aI _ _ _ _ _).trans (congrArg (fun z => aI z 1108 w4) ((cm_zI_zL _ _ _ _ _).trans (congrArg (fun z => zL z 1052 w3) (zI_zI _ 1082 _ _))))))))))))))))
theorem sgX1_ring_zL1052 {σ : Sto} {w0 : Int32} {w1 : Int32} {w2 : Int32} {w3 : Int64} {w4 : Nat → Int32} {w5 : Nat → Int32} {w6 : Nat → Int32} {w7 : Nat → Int64} {w8 : Nat → Int64} {w9 : Nat → Int64} {w10 : Nat → Int64} {g : Int64} : zL (sgX1_ring σ w0 w1 w2 w3 w4 w5 w6 w7 w8 w9 w10) 1052 g = sgX1_ring σ w0 w1 w2 g w4 w5 w6 w7 w8 w9 w10 := (cm_zL_aL _ _ _ _ _).trans (congrArg (fun z => aL z 1152 w10) ((cm_zL_aL _ _ _ _ _).trans (congrArg (fun z => aL z 1150 w9) ((cm_zL_aL _ _ _ _ _).trans (congrArg (fun z => aL z 1141 w8) ((cm_zL_aL _ _ _ _ _).trans (congrArg (fun z => aL z 1140 w7) ((cm_zL_aI _ _ _ _ _).trans (congrArg (fun z => aI z 1162 w6) ((cm_zL_aI _ _ _ _ _).trans (congrArg (fun z => aI z 1125 w5) ((cm_zL_aI _ _ _ _ _).trans (congrArg (fun z => aI z 1108 w4) (zL_zL _ 1052 _ _))))))))))))))
theorem sgX1_ring_aI1108 {σ : Sto} {w0 : Int32} {w1 : Int32} {w2 : Int32} {w3 : Int64} {w4 : Nat → Int32} {w5 : Nat → Int32} {w6 : Nat → Int32} {w7 : Nat → Int64} {w8 : Nat → Int64} {w9 : Nat → Int64} {w10 : Nat → Int64} {g : Nat → Int32} : aI (sgX1_ring σ w0 w1 w2 w3 w4 w5 w6 w7 w8 w9 w10) 1108 g = sgX1_ring σ w0 w1 w2 w3 g w5 w6 w7 w8 w9 w10 := (cm_aI_aL _ _ _ _ _).trans (congrArg (fun z => aL z 1152 w10) ((cm_aI_aL _ _ _ _ _).trans (congrArg (fun z => aL z 1150 w9) ((cm_aI_aL _ _ _ _ _).trans (congrArg (fun z => aL z 1141 w8) ((cm_aI_aL _ _ _ _ _).trans (congrArg (fun z => aL z 1140 w7) ((aI_comm _ (by decide) _ _).trans (congrArg (fun z => aI z 1162 w6) ((aI_comm _ (by decide) _ _).trans (congrArg (fun z => aI z 1125 w5) (aI_aI _ 1108 _ _))))))))))))
theorem sgX1_ring_aI1125 {σ : Sto} {w0 : Int32} {w1 : Int32} {w2 : Int32} {w3 : Int64} {w4 : Nat → Int32} {w5 : Nat → Int32} {w6 : Nat → Int32} {w7 : Nat → Int64} {w8 : Nat → Int64} {w9 : Nat → Int64} {w10 : Nat → Int64} {g : Nat → Int32} : aI (sgX1_ring σ w0 w1 w2 w3 w4 w5 w6 w7 w8 w9 w10) 1125 g = sgX1_ring σ w0 w1 w2 w3 w4 g w6 w7 w8 w9 w10 := (cm_aI_aL _ _ _ _ _).trans (congrArg (fun z => aL z 1152 w10) ((cm_aI_aL _ _ _ _ _).trans (congrArg (fun z => aL z 1150 w9) ((cm_aI_aL _ _ _ _ _).trans (congrArg (fun z => aL z 1141 w8) ((cm_aI_aL _ _ _ _ _).trans (congrArg (fun z => aL z 1140 w7) ((aI_comm _ (by decide) _ _).trans (congrArg (fun z => aI z 1162 w6) (aI_aI _ 1125 _ _))))))))))
theorem sgX1_ring_aI1162 {σ : Sto} {w0 : Int32} {w1 : Int32} {w2 : Int32} {w3 : Int64} {w4 : Nat → Int32} {w5 : Nat → Int32} {w6 : Nat → Int32} {w7 : Nat → Int64} {w8 : Nat → Int64} {w9 : Nat → Int64} {w10 : Nat → Int64} {g : Nat → Int32} : aI (sgX1_ring σ w0 w1 w2 w3 w4 w5 w6 w7 w8 w9 w10) 1162 g = sgX1_ring σ w0 w1 w2 w3 w4 w5 g w7 w8 w9 w10 := (cm_aI_aL _ _ _ _ _).trans (congrArg (fun z => aL z 1152 w10) ((cm_aI_aL _ _ _ _ _).trans (congrArg (fun z => aL z 1150 w9) ((cm_aI_aL _ _ _ _ _).trans (congrArg (fun z => aL z 1141 w8) ((cm_aI_aL _ _ _ _ _).trans (congrArg (fun z => aL z 1140 w7) (aI_aI _ 1162 _ _))))))))
theorem sgX1_ring_aL1140 {σ : Sto} {w0 : Int32} {w1 : Int32} {w2 : Int32} {w3 : Int64} {w4 : Nat → Int32} {w5 : Nat → Int32} {w6 : Nat → Int32} {w7 : Nat → Int64} {w8 : Nat → Int64} {w9 : Nat → Int64} {w10 : Nat → Int64} {g : Nat → Int64} : aL (sgX1_ring σ w0 w1 w2 w3 w4 w5 w6 w7 w8 w9 w10) 1140 g = sgX1_ring σ w0 w1 w2 w3 w4 w5 w6 g w8 w9 w10 := (aL_comm _ (by decide) _ _).trans (congrArg (fun z => aL z 1152 w10) ((aL_comm _ (by decide) _ _).trans (congrArg (fun z => aL z 1150 w9) ((aL_comm _ (by decide) _ _).trans (congrArg (fun z => aL z 1141 w8) (aL_aL _ 1140 _ _))))))
theorem sgX1_ring_aL1141 {σ : Sto} {w0 : Int32} {w1 : Int32} {w2 : Int32} {w3 : Int64} {w4 : Nat → Int32} {w5 : Nat → Int32} {w6 : Nat → Int32} {w7 : Nat → Int64} {w8 : Nat → Int64} {w9 : Nat → Int64} {w10 : Nat → Int64} {g : Nat → Int64} : aL (sgX1_ring σ w0 w1 w2 w3 w4 w5 w6 w7 w8 w9 w10) 1141 g = sgX1_ring σ w0 w1 w2 w3 w4 w5 w6 w7 g w9 w10 := (aL_comm _ (by decide) _ _).trans (congrArg (fun z => aL z 1152 w10) ((aL_comm _ (by decide) _ _).trans (congrArg (fun z => aL z 1150 w9) (aL_aL _ 1141 _ _))))
theorem sgX1_ring_aL1150 {σ : Sto} {w0 : Int32} {w1 : Int32} {w2 : Int32} {w3 : Int64} {w4 : Nat → Int32} {w5 : Nat → Int32} {w6 : Nat → Int32} {w7 : Nat → Int64} {w8 : Nat → Int64} {w9 : Nat → Int64} {w10 : Nat → Int64} {g : Nat → Int64} : aL (sgX1_ring σ w0 w1 w2 w3 w4 w5 w6 w7 w8 w9 w10) 1150 g = sgX1_ring σ w0 w1 w2 w3 w4 w5 w6 w7 w8 g w10 := (aL_comm _ (by decide) _ _).trans (congrArg (fun z => aL z 1152 w10) (aL_aL _ 1150 _ _))
theorem sgX1_ring_aL1152 {σ : Sto} {w0 : Int32} {w1 : Int32} {w2 : Int32} {w3 : Int64} {w4 : Nat → Int32} {w5 : Nat → Int32} {w6 : Nat → Int32} {w7 : Nat → Int64} {w8 : Nat → Int64} {w9 : Nat → Int64} {w10 : Nat → Int64} {g : Nat → Int64} : aL (sgX1_ring σ w0 w1 w2 w3 w4 w5 w6 w7 w8 w9 w10) 1152 g = sgX1_ring σ w0 w1 w2 w3 w4 w5 w6 w7 w8 w9 g := aL_aL _ 1152 _ _
theorem sgX1_ring_rzI1018 {σ : Sto} {w0 : Int32} {w1 : Int32} {w2 : Int32} {w3 : Int64} {w4 : Nat → Int32} {w5 : Nat → Int32} {w6 : Nat → Int32} {w7 : Nat → Int64} {w8 : Nat → Int64} {w9 : Nat → Int64} {w10 : Nat → Int64} : (sgX1_ring σ w0 w1 w2 w3 w4 w5 w6 w7 w8 w9 w10).1 1018 = w0 := rfl
theorem sgX1_ring_rzI1062 {σ : Sto} {w0 : Int32} {w1 : Int32} {w2 : Int32} {w3 : Int64} {w4 : Nat → Int32} {w5 : Nat → Int32} {w6 : Nat → Int32} {w7 : Nat → Int64} {w8 : Nat → Int64} {w9 : Nat → Int64} {w10 : Nat → Int64} : (sgX1_ring σ w0 w1 w2 w3 w4 w5 w6 w7 w8 w9 w10).1 1062 = w1 := rfl
theorem sgX1_ring_rzI1082 {σ : Sto} {w0 : Int32} {w1 : Int32} {w2 : Int32} {w3 : Int64} {w4 : Nat → Int32} {w5 : Nat → Int32} {w6 : Nat → Int32} {w7 : Nat → Int64} {w8 : Nat → Int64} {w9 : Nat → Int64} {w10 : Nat → Int64} : (sgX1_ring σ w0 w1 w2 w3 w4 w5 w6 w7 w8 w9 w10).1 1082 = w2 := rfl
theorem sgX1_ring_rzI1262 {σ : Sto} {w0 : Int32} {w1 : Int32} {w2 : Int32} {w3 : Int64} {w4 : Nat → Int32} {w5 : Nat → Int32} {w6 : Nat → Int32} {w7 : Nat → Int64} {w8 : Nat → Int64} {w9 : Nat → Int64} {w10 : Nat → Int64} : (sgX1_ring σ w0 w1 w2 w3 w4 w5 w6 w7 w8 w9 w10).1 1262 = σ.1 1262 := rfl
theorem sgX1_ring_rzI2008 {σ : Sto} {w0 : Int32} {w1 : Int32} {w2 : Int32} {w3 : Int64} {w4 : Nat → Int32} {w5 : Nat → Int32} {w6 : Nat → Int32} {w7 : Nat → Int64} {w8 : Nat → Int64} {w9 : Nat → Int64} {w10 : Nat → Int64} : (sgX1_ring σ w0 w1 w2 w3 w4 w5 w6 w7 w8 w9 w10).1 2008 = σ.1 2008 := rfl
theorem sgX1_ring_rzI2009 {σ : Sto} {w0 : Int32} {w1 : Int32} {w2 : Int32} {w3 : Int64} {w4 : Nat → Int32} {w5 : Nat → Int32} {w6 : Nat → Int32} {w7 : Nat → Int64} {w8 : Nat → Int64} {w9 : Nat → Int64} {w10 : Nat → Int64} : (sgX1_ring σ w0 w1 w2 w3 w4 w5 w6 w7 w8 w9 w10).1 2009 = σ.1 2009 := rfl
theorem sgX1_ring_rzI2012 {σ : Sto} {w0 : Int32} {w1 : Int32} {w2 : Int32} {w3 : Int64} {w4 : Nat → Int32} {w5 : Nat → Int32} {w6 : Nat → Int32} {w7 : Nat → Int64} {w8 : Nat → Int64} {w9 : Nat → Int64} {w10 : Nat → Int64} : (sgX1_ring σ w0 w1 w2 w3 w4 w5 w6 w7 w8 w9 w10).1 2012 = σ.1 2012 := rfl
theorem sgX1_ring_rzI2013 {σ : Sto} {w0 : Int32} {w1 : Int32} {w2 : Int32} {w3 : Int64} {w4 : Nat → Int32} {w5 : Nat → Int32} {w6 : Nat → Int32} {w7 : Nat → Int64} {w8 : Nat → Int64} {w9 : Nat → Int64} {w10 : Nat → Int64} : (sgX1_ring σ w0 w1 w2 w3 w4 w5 w6 w7 w8 w9 w10).1 2013 = σ.1 2013 := rfl
theorem sgX1_ring_rzI2027 {σ : Sto} {w0 : Int32} {w1 : Int32} {w2 : Int32} {w3 : Int64} {w4 : Nat → Int32} {w5 : Nat → Int32} {w6 : Nat → Int32} {w7 : Nat → Int64} {w8 : Nat → Int64} {w9 : Nat → Int64} {w10 : Nat → Int64} : (sgX1_ring σ w0 w1 w2 w3 w4 w5 w6 w7 w8 w9 w10).1 2027 = σ.1 2027 := rfl
theorem sgX1_ring_rzI2032 {σ : Sto} {w0 : Int32} {w1 : Int32} {w2 : Int32} {w3 : Int64} {w4 : Nat → Int32} {w5 : Nat → Int32} {w6 : Nat → Int32} {w7 : Nat → Int64} {w8 : Nat → Int64} {w9 : Nat → Int64} {w10 : Nat → Int64} : (sgX1_ring σ w0 w1 w2 w3 w4 w5 w6 w7 w8 w9 w10).1 2032 = σ.1 2032 := rfl
theorem sgX1_ring_rzL1052 {σ : Sto} {w0 : Int32} {w1 : Int32} {w2 : Int32} {w3 : Int64} {w4 : Nat → Int32} {w5 : Nat → Int32} {w6 : Nat → Int32} {w7 : Nat → Int64} {w8 : Nat → Int64} {w9 : Nat → Int64} {w10 : Nat → Int64} : (sgX1_ring σ w0 w1 w2 w3 w4 w5 w6 w7 w8 w9 w10).2.1 1052 = w3 := rfl
theorem sgX1_ring_rzL1061 {σ : Sto} {w0 : Int32} {w1 : Int32} {w2 : Int32} {w3 : Int64} {w4 : Nat → Int32} {w5 : Nat → Int32} {w6 : Nat → Int32} {w7 : Nat → Int64} {w8 : Nat → Int64} {w9 : Nat → Int64} {w10 : Nat → Int64} : (sgX1_ring σ w0 w1 w2 w3 w4 w5 w6 w7 w8 w9 w10).2.1 1061 = σ.2.1 1061 := rfl
theorem sgX1_ring_rzL1081 {σ : Sto} {w0 : Int32} {w1 : Int32} {w2 : Int32} {w3 : Int64} {w4 : Nat → Int32} {w5 : Nat → Int32} {w6 : Nat → Int32} {w7 : Nat → Int64} {w8 : Nat → Int64} {w9 : Nat → Int64} {w10 : Nat → Int64} : (sgX1_ring σ w0 w1 w2 w3 w4 w5 w6 w7 w8 w9 w10).2.1 1081 = σ.2.1 1081 := rfl
theorem sgX1_ring_raI1108 {σ : Sto} {w0 : Int32} {w1 : Int32} {w2 : Int32} {w3 : Int64} {w4 : Nat → Int32} {w5 : Nat → Int32} {w6 : Nat → Int32} {w7 : Nat → Int64} {w8 : Nat → Int64} {w9 : Nat → Int64} {w10 : Nat → Int64} : (sgX1_ring σ w0 w1 w2 w3 w4 w5 w6 w7 w8 w9 w10).2.2.1 1108 = w4 := rfl
theorem sgX1_ring_raI1125 {σ : Sto} {w0 : Int32} {w1 : Int32} {w2 : Int32} {w3 : Int64} {w4 : Nat → Int32} {w5 : Nat → Int32} {w6 : Nat → Int32} {w7 : Nat → Int64} {w8 : Nat → Int64} {w9 : Nat → Int64} {w10 : Nat → Int64} : (sgX1_ring σ w0 w1 w2 w3 w4 w5 w6 w7 w8 w9 w10).2.2.1 1125 = w5 := rfl
theorem sgX1_ring_raI1162 {σ : Sto} {w0 : Int32} {w1 : Int32} {w2 : Int32} {w3 : Int64} {w4 : Nat → Int32} {w5 : Nat → Int32} {w6 : Nat → Int32} {w7 : Nat → Int64} {w8 : Nat → Int64} {w9 : Nat → Int64} {w10 : Nat → Int64} : (sgX1_ring σ w0 w1 w2 w3 w4 w5 w6 w7 w8 w9 w10).2.2.1 1162 = w6 := rfl
theorem sgX1_ring_raI1170 {σ : Sto} {w0 : Int32} {w1 : Int32} {w2 : Int32} {w3 : Int64} {w4 : Nat → Int32} {w5 : Nat → Int32} {w6 : Nat → Int32} {w7 : Nat → Int64} {w8 : Nat → Int64} {w9 : Nat → Int64} {w10 : Nat → Int64} : (sgX1_ring σ w0 w1 w2 w3 w4 w5 w6 w7 w8 w9 w10).2.2.1 1170 = σ.2.2.1 1170 := rfl
theorem sgX1_ring_raI1265 {σ : Sto} {w0 : Int32} {w1 : Int32} {w2 : Int32} {w3 : Int64} {w4 : Nat → Int32} {w5 : Nat → Int32} {w6 : Nat → Int32} {w7 : Nat → Int64} {w8 : Nat → Int64} {w9 : Nat → Int64} {w10 : Nat → Int64} : (sgX1_ring σ w0 w1 w2 w3 w4 w5 w6 w7 w8 w9 w10).2.2.1 1265 = σ.2.2.1 1265 := rfl
theorem sgX1_ring_raI2036 {σ : Sto} {w0 : Int32} {w1 : Int32} {w2 : Int32} {w3 : Int64} {w4 : Nat → Int32} {w5 : Nat → Int32} {w6 : Nat → Int32} {w7 : Nat → Int64} {w8 : Nat → Int64} {w9 : Nat → Int64} {w10 : Nat → Int64} : (sgX1_ring σ w0 w1 w2 w3 w4 w5 w6 w7 w8 w9 w10).2.2.1 2036 = σ.2.2.1 2036 := rfl
theorem sgX1_ring_raI2037 {σ : Sto} {w0 : Int32} {w1 : Int32} {w2 : Int32} {w3 : Int64} {w4 : Nat → Int32} {w5 : Nat → Int32} {w6 : Nat → Int32} {w7 : Nat → Int64} {w8 : Nat → Int64} {w9 : Nat → Int64} {w10 : Nat → Int64} : (sgX1_ring σ w0 w1 w2 w3 w4 w5 w6 w7 w8 w9 w10).2.2.1 2037 = σ.2.2.1 2037 := rfl
theorem sgX1_ring_raI2042 {σ : Sto} {w0 : Int32} {w1 : Int32} {w2 : Int32} {w3 : Int64} {w4 : Nat → Int32} {w5 : Nat → Int32} {w6 : Nat → Int32} {w7 : Nat → Int64} {w8 : Nat → Int64} {w9 : Nat → Int64} {w10 : Nat → Int64} : (sgX1_ring σ w0 w1 w2 w3 w4 w5 w6 w7 w8 w9 w10).2.2.1 2042 = σ.2.2.1 2042 := rfl
theorem sgX1_ring_raI2043 {σ : Sto} {w0 : Int32} {w1 : Int32} {w2 : Int32} {w3 : Int64} {w4 : Nat → Int32} {w5 : Nat → Int32} {w6 : Nat → Int32} {w7 : Nat → Int64} {w8 : Nat → Int64} {w9 : Nat → Int64} {w10 : Nat → Int64} : (sgX1_ring σ w0 w1 w2 w3 w4 w5 w6 w7 w8 w9 w10).2.2.1 2043 = σ.2.2.1 2043 := rfl
theorem sgX1_ring_raL1140 {σ : Sto} {w0 : Int32} {w1 : Int32} {w2 : Int32} {w3 : Int64} {w4 : Nat → Int32} {w5 : Nat → Int32} {w6 : Nat → Int32} {w7 : Nat → Int64} {w8 : Nat → Int64} {w9 : Nat → Int64} {w10 : Nat → Int64} : (sgX1_ring σ w0 w1 w2 w3 w4 w5 w6 w7 w8 w9 w10).2.2.2.1 1140 = w7 := rfl
theorem sgX1_ring_raL1141 {σ : Sto} {w0 : Int32} {w1 : Int32} {w2 : Int32} {w3 : Int64} {w4 : Nat → Int32} {w5 : Nat → Int32} {w6 : Nat → Int32} {w7 : Nat → Int64} {w8 : Nat → Int64} {w9 : Nat → Int64} {w10 : Nat → Int64} : (sgX1_ring σ w0 w1 w2 w3 w4 w5 w6 w7 w8 w9 w10).2.2.2.1 1141 = w8 := rfl
theorem sgX1_ring_raL1150 {σ : Sto} {w0 : Int32} {w1 : Int32} {w2 : Int32} {w3 : Int64} {w4 : Nat → Int32} {w5 : Nat → Int32} {w6 : Nat → Int32} {w7 : Nat → Int64} {w8 : Nat → Int64} {w9 : Nat → Int64} {w10 : Nat → Int64} : (sgX1_ring σ w0 w1 w2 w3 w4 w5 w6 w7 w8 w9 w10).2.2.2.1 1150 = w9 := rfl
theorem sgX1_ring_raL1152 {σ : Sto} {w0 : Int32} {w1 : Int32} {w2 : Int32} {w3 : Int64} {w4 : Nat → Int32} {w5 : Nat → Int32} {w6 : Nat → Int32} {w7 : Nat → Int64} {w8 : Nat → Int64} {w9 : Nat → Int64} {w10 : Nat → Int64} : (sgX1_ring σ w0 w1 w2 w3 w4 w5 w6 w7 w8 w9 w10).2.2.2.1 1152 = w10 := rfl
theorem sgX1_ring_rpR2 {σ : Sto} {w0 : Int32} {w1 : Int32} {w2 : Int32} {w3 : Int64} {w4 : Nat → Int32} {w5 : Nat → Int32} {w6 : Nat → Int32} {w7 : Nat → Int64} {w8 : Nat → Int64} {w9 : Nat → Int64} {w10 : Nat → Int64} : (fun k => (sgX1_ring σ w0 w1 w2 w3 w4 w5 w6 w7 w8 w9 w10).1 (6000 + 16 * k + 2)) = (fun k => σ.1 (6000 + 16 * k + 2)) := by
  funext k
  unfold sgX1_ring
  dsimp only [zI, zL, aI, aL]
  repeat rw [if_neg (by omega)]
theorem sgX1_ring_rpR3 {σ : Sto} {w0 : Int32} {w1 : Int32} {w2 : Int32} {w3 : Int64} {w4 : Nat → Int32} {w5 : Nat → Int32} {w6 : Nat → Int32} {w7 : Nat → Int64} {w8 : Nat → Int64} {w9 : Nat → Int64} {w10 : Nat → Int64} : (fun k => (sgX1_ring σ w0 w1 w2 w3 w4 w5 w6 w7 w8 w9 w10).1 (6000 + 16 * k + 3)) = (fun k => σ.1 (6000 + 16 * k + 3)) := by
  funext k
  unfold sgX1_ring
  dsimp only [zI, zL, aI, aL]
  repeat rw [if_neg (by omega)]
theorem sgX1_ring_rpR4 {σ : Sto} {w0 : Int32} {w1 : Int32} {w2 : Int32} {w3 : Int64} {w4 : Nat → Int32} {w5 : Nat → Int32} {w6 : Nat → Int32} {w7 : Nat → Int64} {w8 : Nat → Int64} {w9 : Nat → Int64} {w10 : Nat → Int64} : (fun k => (sgX1_ring σ w0 w1 w2 w3 w4 w5 w6 w7 w8 w9 w10).1 (6000 + 16 * k + 4)) = (fun k => σ.1 (6000 + 16 * k + 4)) := by
  funext k
  unfold sgX1_ring
  dsimp only [zI, zL, aI, aL]
  repeat rw [if_neg (by omega)]
theorem sgX1_ring_rpR5 {σ : Sto} {w0 : Int32} {w1 : Int32} {w2 : Int32} {w3 : Int64} {w4 : Nat → Int32} {w5 : Nat → Int32} {w6 : Nat → Int32} {w7 : Nat → Int64} {w8 : Nat → Int64} {w9 : Nat → Int64} {w10 : Nat → Int64} : (fun k => (sgX1_ring σ w0 w1 w2 w3 w4 w5 w6 w7 w8 w9 w10).1 (6000 + 16 * k + 5)) = (fun k => σ.1 (6000 + 16 * k + 5)) := by
  funext k
  unfold sgX1_ring
  dsimp only [zI, zL, aI, aL]
  repeat rw [if_neg (by omega)]
theorem sgX1_ring_rpR6 {σ : Sto} {w0 : Int32} {w1 : Int32} {w2 : Int32} {w3 : Int64} {w4 : Nat → Int32} {w5 : Nat → Int32} {w6 : Nat → Int32} {w7 : Nat → Int64} {w8 : Nat → Int64} {w9 : Nat → Int64} {w10 : Nat → Int64} : (fun k => (sgX1_ring σ w0 w1 w2 w3 w4 w5 w6 w7 w8 w9 w10).1 (6000 + 16 * k + 6)) = (fun k => σ.1 (6000 + 16 * k + 6)) := by
  funext k
  unfold sgX1_ring
  dsimp only [zI, zL, aI, aL]
  repeat rw [if_neg (by omega)]
theorem sgX1_ring_rpW0 {σ : Sto} {w0 : Int32} {w1 : Int32} {w2 : Int32} {w3 : Int64} {w4 : Nat → Int32} {w5 : Nat → Int32} {w6 : Nat → Int32} {w7 : Nat → Int64} {w8 : Nat → Int64} {w9 : Nat → Int64} {w10 : Nat → Int64} : (fun k => (sgX1_ring σ w0 w1 w2 w3 w4 w5 w6 w7 w8 w9 w10).1 (8000 + 16 * k + 0)) = (fun k => σ.1 (8000 + 16 * k + 0)) := by
  funext k
  unfold sgX1_ring
  dsimp only [zI, zL, aI, aL]
  repeat rw [if_neg (by omega)]
theorem sgX1_ring_rpW1 {σ : Sto} {w0 : Int32} {w1 : Int32} {w2 : Int32} {w3 : Int64} {w4 : Nat → Int32} {w5 : Nat → Int32} {w6 : Nat → Int32} {w7 : Nat → Int64} {w8 : Nat → Int64} {w9 : Nat → Int64} {w10 : Nat → Int64} : (fun k => (sgX1_ring σ w0 w1 w2 w3 w4 w5 w6 w7 w8 w9 w10).1 (8000 + 16 * k + 1)) = (fun k => σ.1 (8000 + 16 * k + 1)) := by
  funext k
  unfold sgX1_ring
  dsimp only [zI, zL, aI, aL]
  repeat rw [if_neg (by omega)]
theorem sgX1_ring_rpW2 {σ : Sto} {w0 : Int32} {w1 : Int32} {w2 : Int32} {w3 : Int64} {w4 : Nat → Int32} {w5 : Nat → Int32} {w6 : Nat → Int32} {w7 : Nat → Int64} {w8 : Nat → Int64} {w9 : Nat → Int64} {w10 : Nat → Int64} : (fun k => (sgX1_ring σ w0 w1 w2 w3 w4 w5 w6 w7 w8 w9 w10).1 (8000 + 16 * k + 2)) = (fun k => σ.1 (8000 + 16 * k + 2)) := by
  funext k
  unfold sgX1_ring
  dsimp only [zI, zL, aI, aL]
  repeat rw [if_neg (by omega)]
theorem sgX1_ring_rpU0 {σ : Sto} {w0 : Int32} {w1 : Int32} {w2 : Int32} {w3 : Int64} {w4 : Nat → Int32} {w5 : Nat → Int32} {w6 : Nat → Int32} {w7 : Nat → Int64} {w8 : Nat → Int64} {w9 : Nat → Int64} {w10 : Nat → Int64} : (fun k => (sgX1_ring σ w0 w1 w2 w3 w4 w5 w6 w7 w8 w9 w10).1 (10000 + 16 * k + 0)) = (fun k => σ.1 (10000 + 16 * k + 0)) := by
  funext k
  unfold sgX1_ring
  dsimp only [zI, zL, aI, aL]
  repeat rw [if_neg (by omega)]
theorem sgX1_ring_rpU1 {σ : Sto} {w0 : Int32} {w1 : Int32} {w2 : Int32} {w3 : Int64} {w4 : Nat → Int32} {w5 : Nat → Int32} {w6 : Nat → Int32} {w7 : Nat → Int64} {w8 : Nat → Int64} {w9 : Nat → Int64} {w10 : Nat → Int64} : (fun k => (sgX1_ring σ w0 w1 w2 w3 w4 w5 w6 w7 w8 w9 w10).1 (10000 + 16 * k + 1)) = (fun k => σ.1 (10000 + 16 * k + 1)) := by
  funext k
  unfold sgX1_ring
  dsimp only [zI, zL, aI, aL]
  repeat rw [if_neg (by omega)]
theorem sgX1_ring_rpU2 {σ : Sto} {w0 : Int32} {w1 : Int32} {w2 : Int32} {w3 : Int64} {w4 : Nat → Int32} {w5 : Nat → Int32} {w6 : Nat → Int32} {w7 : Nat → Int64} {w8 : Nat → Int64} {w9 : Nat → Int64} {w10 : Nat → Int64} : (fun k => (sgX1_ring σ w0 w1 w2 w3 w4 w5 w6 w7 w8 w9 w10).1 (10000 + 16 * k + 2)) = (fun k => σ.1 (10000 + 16 * k + 2)) := by
  funext k
  unfold sgX1_ring
  dsimp only [zI, zL, aI, aL]
  repeat rw [if_neg (by omega)]
theorem sgX1_ring_rpU3 {σ : Sto} {w0 : Int32} {w1 : Int32} {w2 : Int32} {w3 : Int64} {w4 : Nat → Int32} {w5 : Nat → Int32} {w6 : Nat → Int32} {w7 : Nat → Int64} {w8 : Nat → Int64} {w9 : Nat → Int64} {w10 : Nat → Int64} : (fun k => (sgX1_ring σ w0 w1 w2 w3 w4 w5 w6 w7 w8 w9 w10).1 (10000 + 16 * k + 3)) = (fun k => σ.1 (10000 + 16 * k + 3)) := by
  funext k
  unfold sgX1_ring
  dsimp only [zI, zL, aI, aL]
  repeat rw [if_neg (by omega)]
theorem sgX1_ring_rgG0 {σ : Sto} {w0 : Int32} {w1 : Int32} {w2 : Int32} {w3 : Int64} {w4 : Nat → Int32} {w5 : Nat → Int32} {w6 : Nat → Int32} {w7 : Nat → Int64} {w8 : Nat → Int64} {w9 : Nat → Int64} {w10 : Nat → Int64} : (fun k => (sgX1_ring σ w0 w1 w2 w3 w4 w5 w6 w7 w8 w9 w10).2.2.1 (4000 + 16 * k)) = (fun k => σ.2.2.1 (4000 + 16 * k)) := by
  funext k
  unfold sgX1_ring
  dsimp only [zI, zL, aI, aL]
  repeat rw [if_neg (by omega)]
abbrev rmX1_ring : Room := { frames := 49, cells := 0, slots := 0, locals := 1337 }
set_option maxHeartbeats 4000000 in
theorem wkX1_ring {x1 : Int32} {r_ : Int32} {w_zI1018 : Int32} {w_zI1062 : Int32} {w_zI1082 : Int32} {w_zL1052 : Int64} {w_aI1108 : Nat → Int32} {w_aI1125 : Nat → Int32} {w_aI1162 : Nat → Int32} {w_aL1140 : Nat → Int64} {w_aL1141 : Nat → Int64} {w_aL1150 : Nat → Int64} {w_aL1152 : Nat → Int64} (E : EN p s m args meth c0 RX1 cX1_ring 3 (Option.some Jvm.ClassFile.FieldType.int)) (hX : KX D G ad A s s.heap) (hD : XD dsc nr nw nu) (hA : ∀ q, PA dsc ad s.heap.size q → A q) (hf : xo_X1_ring (σ.1 1018) (σ.1 1062) (σ.1 1082) (σ.1 1262) (σ.1 2008) (σ.1 2009) (σ.1 2012) (σ.1 2013) (σ.1 2027) (σ.1 2032) (σ.2.1 1052) (σ.2.1 1061) (σ.2.1 1081) (σ.2.2.1 1108) (σ.2.2.1 1125) (σ.2.2.1 1162) (σ.2.2.1 1170) (σ.2.2.1 1265) (σ.2.2.1 2036) (σ.2.2.1 2037) (σ.2.2.1 2042) (σ.2.2.1 2043) (σ.2.2.2.1 1140) (σ.2.2.2.1 1141) (σ.2.2.2.1 1150) (σ.2.2.2.1 1152) nr nw nu (fun k => σ.1 (6000 + 16 * k + 2)) (fun k => σ.1 (6000 + 16 * k + 3)) (fun k => σ.1 (6000 + 16 * k + 4)) (fun k => σ.1 (6000 + 16 * k + 5)) (fun k => σ.1 (6000 + 16 * k + 6)) (fun k => σ.1 (8000 + 16 * k + 0)) (fun k => σ.1 (8000 + 16 * k + 1)) (fun k => σ.1 (8000 + 16 * k + 2)) (fun k => σ.1 (10000 + 16 * k + 0)) (fun k => σ.1 (10000 + 16 * k + 1)) (fun k => σ.1 (10000 + 16 * k + 2)) (fun k => σ.1 (10000 + 16 * k + 3)) (fun k => σ.2.2.1 (4000 + 16 * k)) x1 = some (r_, w_zI1018, w_zI1062, w_zI1082, w_zL1052, w_aI1108, w_aI1125, w_aI1162, w_aL1140, w_aL1141, w_aL1150, w_aL1152)) (hQ : Q = MQ below (va_G1 (some (.int r_)) (fun t => PIC D clsA G dsc ad (sgX1_ring σ w_zI1018 w_zI1062 w_zI1082 w_zL1052 w_aI1108 w_aI1125 w_aI1162 w_aL1140 w_aL1141 w_aL1150 w_aL1152) t.heap) A) args s 0 0 A) (hP : PIC D clsA G dsc ad σ H) (hS : va_S A s.heap H locs) (hl : lv_has ls 3 [(0, .ref (ad 1000)), (1, .int x1)]) : W p l e rmX1_ring s m args below meth c0 H locs 0 0 Q (F0 m 0 ls []) := by
  obtain ⟨⟨hx, hb, hml, hown, hts⟩, hr, hlk⟩ := id E
  have hP := hP.to (sgX1_ring_self σ).symm
  unfold xo_X1_ring at hf
  refine lv_iload_n hx hb dX1_ring_0 rfl (lv_at hl 1 rfl) ?_
  refine lv_if_lt (tgt := 14) hx hb dX1_ring_1 (by decide) (fun c1 => ?_) (fun c1 => ?_)
  · have hf := ifT c1 hf
    refine lv_iconst hx hb dX1_ring_14 ic_m1 ?_
    cases hf
    rw [hQ]; exact g_iret hx hb hr hlk hP hS dX1_ring_15
  · have hf := ifF c1 hf
    refine lv_aload_n hx hb dX1_ring_4 rfl (lv_at hl 0 rfl) ?_
    refine gx_X1_33_1000 E hX hD hP dX1_ring_5 ?_
    obtain ⟨v2, u3, hf⟩ := bdP hf
    refine cx_X1_231_X3_isWhole E hX hD hP hS hA (kxX3_isWhole l D G hD sgX1_ring_rzI2012 sgX1_ring_rzI2013 u3) ⟨rfl, rfl⟩ ⟨Nat.le_of_ble_eq_true rfl, Nat.le_of_ble_eq_true rfl⟩ ⟨Nat.zero_le _, Nat.zero_le _⟩ hl.1 (Nat.le_of_ble_eq_true rfl) dX1_ring_8 (fun H locs hP hS => ?_)
    refine lv_if_ne (tgt := 16) hx hb dX1_ring_11 (by decide) (fun c4 => ?_) (fun c4 => ?_)
    · have hf := ifF c4 hf
      refine lv_aload_n hx hb dX1_ring_16 rfl (lv_at hl 0 rfl) ?_
      obtain ⟨⟨z5, z6, z7, z8, a9, a10, a11, a12, a13, a14⟩, u15, hf⟩ := bdP hf
      dsimp only at hf
      refine cx_X1_276_X1_lay E hX hD hP hS hA (kxX1_lay l D G hD sgX1_ring_rzI1018 sgX1_ring_rzI1062 sgX1_ring_rzI1082 sgX1_ring_rzI2008 sgX1_ring_rzI2009 sgX1_ring_rzI2012 sgX1_ring_rzI2013 sgX1_ring_rzI2027 sgX1_ring_rzI2032 sgX1_ring_rzL1052 sgX1_ring_rzL1061 sgX1_ring_rzL1081 sgX1_ring_raI1108 sgX1_ring_raI1162 sgX1_ring_raI1170 sgX1_ring_raI2036 sgX1_ring_raI2037 sgX1_ring_raI2042 sgX1_ring_raI2043 sgX1_ring_raL1140 sgX1_ring_raL1141 sgX1_ring_raL1150 sgX1_ring_raL1152 rfl rfl sgX1_ring_rpR2 sgX1_ring_rpR3 sgX1_ring_rpR4 sgX1_ring_rpR5 sgX1_ring_rpR6 sgX1_ring_rpW0 sgX1_ring_rpW1 sgX1_ring_rpW2 sgX1_ring_rgG0 u15) ⟨rfl, rfl⟩ ⟨Nat.le_of_ble_eq_true rfl, Nat.le_of_ble_eq_true rfl⟩ ⟨Nat.zero_le _, Nat.zero_le _⟩ hl.1 (Nat.le_of_ble_eq_true rfl) dX1_ring_17 (fun H locs hP hS => ?_)
      rw [sgX1_ring_zI1018, sgX1_ring_zI1062, sgX1_ring_zI1082, sgX1_ring_zL1052, sgX1_ring_aI1108, sgX1_ring_aI1162, sgX1_ring_aL1140, sgX1_ring_aL1141, sgX1_ring_aL1150, sgX1_ring_aL1152] at hP
      refine lv_iconst hx hb dX1_ring_20 ic_0 ?_
      refine lv_istore_n (lv' := [(2, .int 0), (0, .ref (ad 1000)), (1, .int x1)]) hx hb dX1_ring_21 rfl hl (by decide) rfl (fun ls hl => ?_)
      have LP22 : ∀ (st22 : Int32) (ex22 : (Int32) ⊕ (Unit)), loop (xo_X1_ring_L22 (σ.1 1262) (σ.1 2012) (σ.1 2013) (σ.1 2027) (σ.1 2032) (σ.2.2.1 1170) (σ.2.2.1 1265) (σ.2.2.1 2037) (σ.2.2.1 2043) nr nw nu (fun k => σ.1 (6000 + 16 * k + 2)) (fun k => σ.1 (6000 + 16 * k + 5)) (fun k => σ.1 (6000 + 16 * k + 6)) (fun k => σ.1 (8000 + 16 * k + 1)) (fun k => σ.1 (8000 + 16 * k + 2)) (fun k => σ.1 (10000 + 16 * k + 0)) (fun k => σ.1 (10000 + 16 * k + 1)) (fun k => σ.1 (10000 + 16 * k + 2)) (fun k => σ.1 (10000 + 16 * k + 3)) (fun k => σ.2.2.1 (4000 + 16 * k)) a11) st22 = some ex22 → ∀ (H : Heap) (locs : List Loc), PIC D clsA G dsc ad (sgX1_ring σ z5 z6 z7 z8 a9 (σ.2.2.1 1125) a10 a11 a12 a13 a14) H → va_S A s.heap H locs → ∀ (ls : Array Slot), lv_has ls 3 [(0, .ref (ad 1000)), (1, .int x1), (2, .int st22)] → (∀ (y26 : Int32), ex22 = (.inl y26) → ∀ (H : Heap) (locs : List Loc), PIC D clsA G dsc ad (sgX1_ring σ z5 z6 z7 z8 a9 (σ.2.2.1 1125) a10 a11 a12 a13 a14) H → va_S A s.heap H locs → ∀ (ls : Array Slot), lv_has ls 3 [(0, .ref (ad 1000)), (1, .int x1), (2, .int y26)] → W p l e rmX1_ring s m args below meth c0 H locs 0 0 Q (F0 m 63 ls [])) → (ex22 = (.inr ()) → ∀ (H : Heap) (locs : List Loc), PIC D clsA G dsc ad (sgX1_ring σ z5 z6 z7 z8 a9 (σ.2.2.1 1125) a10 a11 a12 a13 a14) H → va_S A s.heap H locs → ∀ (ls : Array Slot), lv_has ls 3 [] → W p l e rmX1_ring s m args below meth c0 H locs 0 0 Q (F0 m 76 ls [])) → W p l e rmX1_ring s m args below meth c0 H locs 0 0 Q (F0 m 22 ls []) := by
        refine loop_P (fun st22 ex22 o22 hf ih22 hx22 => ?_)
        obtain ⟨y16, rfl⟩ : ∃ z, z = st22 := ⟨_, rfl⟩
        intro H locs (hP : PIC D clsA G dsc ad (sgX1_ring σ z5 z6 z7 z8 a9 (σ.2.2.1 1125) a10 a11 a12 a13 a14) H) hS ls (hl : lv_has ls 3 [(0, .ref (ad 1000)), (1, .int x1), (2, .int y16)]) KE22_0 KE22_1
        dsimp only [xo_X1_ring_L22] at hf
        refine lv_iload_n hx hb dX1_ring_22 rfl (lv_at hl 2 rfl) ?_
        refine lv_aload_n hx hb dX1_ring_23 rfl (lv_at hl 0 rfl) ?_
        refine gx_X1_33_1000 E hX hD hP dX1_ring_24 ?_
        obtain ⟨v17, u18, hf⟩ := bdP hf
        refine cx_X1_239_X3_worlds E hX hD hP hS hA (kxX3_worlds l D G hD sgX1_ring_rzI2027 u18) ⟨rfl, rfl⟩ ⟨Nat.le_of_ble_eq_true rfl, Nat.le_of_ble_eq_true rfl⟩ ⟨Nat.zero_le _, Nat.zero_le _⟩ hl.1 (Nat.le_of_ble_eq_true rfl) dX1_ring_27 (fun H locs hP hS => ?_)
        refine lv_icmp_ge (tgt := 76) hx hb dX1_ring_30 (by decide) (fun c19 => ?_) (fun c19 => ?_)
        · have hf := ifT c19 hf
          exact KE22_1  (hx22 _ (Option.some.inj hf).symm).symm H locs hP hS ls (lv_sub hl [] rfl)
        · have hf := ifF c19 hf
          refine lv_aload_n hx hb dX1_ring_33 rfl (lv_at hl 0 rfl) ?_
          refine gx_X1_40_1000 E hX hD hP dX1_ring_34 ?_
          refine gx_X1_278_1050 E hX hD hP dX1_ring_37 ?_
          refine lv_iload_n hx hb dX1_ring_40 rfl (lv_at hl 2 rfl) ?_
          obtain ⟨v20, hv20, hf⟩ := bdP hf
          refine p_lald hx hb hX.1 hP (hD.1 _ _ dX_1140) sgX1_ring_raL1140 hv20 dX1_ring_41 ?_
          refine lv_lconst hx hb dX1_ring_42 lc_0 ?_
          refine W.lcmp hx hb dX1_ring_43 ?_
          have J70 : xo_X1_ring_J70 y16 = some o22 → ∀ (H : Heap) (locs : List Loc), PIC D clsA G dsc ad (sgX1_ring σ z5 z6 z7 z8 a9 (σ.2.2.1 1125) a10 a11 a12 a13 a14) H → va_S A s.heap H locs → ∀ (ls : Array Slot), lv_has ls 3 [(0, .ref (ad 1000)), (1, .int x1), (2, .int y16)] → W p l e rmX1_ring s m args below meth c0 H locs 0 0 Q (F0 m 70 ls []) := by
            intro  hf H locs hP hS ls hl
            unfold xo_X1_ring_J70 at hf
            obtain ⟨v21, hv21, hf⟩ := bdP hf
            refine lv_iinc (v := v21) (lv' := [(2, .int v21), (0, .ref (ad 1000)), (1, .int x1)]) hx hb dX1_ring_70 hl (k := 2) rfl (Option.some.inj hv21) (by decide) rfl (fun ls hl => ?_)
            refine lv_goto (tgt := 22) hx hb dX1_ring_73 (by decide) ?_
            exact ih22 _ (Option.some.inj hf).symm H locs hP hS ls (lv_sub hl [1, 2, 0] rfl) KE22_0 KE22_1
          refine lv_if_le (tgt := 70) hx hb dX1_ring_44 (by decide) (fun c22 => ?_) (fun c22 => ?_)
          · have hf := ifT ((lgc_le _ _).mp c22) hf
            exact J70  hf H locs hP hS ls (lv_sub hl [0, 1, 2] rfl)
          · have hf := ifF (mt (lgc_le _ _).mpr c22) hf
            refine lv_aload_n hx hb dX1_ring_47 rfl (lv_at hl 0 rfl) ?_
            refine gx_X1_113_1000 E hX hD hP dX1_ring_48 ?_
            refine lv_bipush hx hb dX1_ring_51 bp_6 ?_
            refine p_aald7 (v := 6) hx hb hX.1 hP (hD.1 _ _ dX_1117) (by decide) dX1_ring_53 ?_
            refine p_nn (by decide) ?_
            refine p_ad (c2 := 1496) (by decide) ?_
            refine lv_iload_n hx hb dX1_ring_54 rfl (lv_at hl 2 rfl) ?_
            obtain ⟨v23, u24, hf⟩ := bdP hf
            refine cx_X1_328_X9_hours_p6 E hX hD hP hS hA (kxX9_hours_p6 l D G hD sgX1_ring_rzI1262 sgX1_ring_rzI2012 sgX1_ring_rzI2013 sgX1_ring_rzI2027 sgX1_ring_rzI2032 sgX1_ring_raI1170 sgX1_ring_raI1265 sgX1_ring_raI2037 sgX1_ring_raI2043 rfl rfl rfl sgX1_ring_rpR2 sgX1_ring_rpR5 sgX1_ring_rpR6 sgX1_ring_rpW1 sgX1_ring_rpW2 sgX1_ring_rpU0 sgX1_ring_rpU1 sgX1_ring_rpU2 sgX1_ring_rpU3 sgX1_ring_rgG0 u24) ⟨rfl, rfl⟩ ⟨Nat.le_of_ble_eq_true rfl, Nat.le_of_ble_eq_true rfl⟩ ⟨Nat.zero_le _, Nat.zero_le _⟩ hl.1 (Nat.le_of_ble_eq_true rfl) dX1_ring_55 (fun H locs hP hS => ?_)
            refine lv_bipush hx hb dX1_ring_58 bp_m2 ?_
            refine lv_icmp_ne (tgt := 70) hx hb dX1_ring_60 (by decide) (fun c25 => ?_) (fun c25 => ?_)
            · have hf := ifF c25 hf
              exact J70  hf H locs hP hS ls (lv_sub hl [0, 1, 2] rfl)
            · have hf := ifT c25 hf
              exact KE22_0 _ (hx22 _ (Option.some.inj hf).symm).symm H locs hP hS ls (lv_sub hl [0, 1, 2] rfl)
      obtain ⟨ex22, hlp22, hf⟩ := bdP hf
      refine LP22 0 ex22 hlp22 H locs hP hS ls (lv_sub hl [1, 2, 0] rfl) ?_ ?_
      · intro y26 hex22 H locs hP hS ls hl
        subst ex22
        dsimp only [sE_l, sE_r] at hf
        refine lv_aload_n hx hb dX1_ring_63 rfl (lv_at hl 0 rfl) ?_
        refine lv_iload_n hx hb dX1_ring_64 rfl (lv_at hl 1 rfl) ?_
        refine lv_iload_n hx hb dX1_ring_65 rfl (lv_at hl 2 rfl) ?_
        obtain ⟨⟨v27, a28⟩, u29, hf⟩ := bdP hf
        dsimp only at hf
        refine cx_X1_374_X1_ring_2 E hX hD hP hS hA (kxX1_ring_2 l D G hD sgX1_ring_rzI1262 sgX1_ring_rzI2012 sgX1_ring_rzI2013 sgX1_ring_rzI2027 sgX1_ring_raI1125 sgX1_ring_raI1170 sgX1_ring_raI1265 sgX1_ring_raI2043 rfl rfl sgX1_ring_rpR2 sgX1_ring_rpR5 sgX1_ring_rpR6 sgX1_ring_rpU0 sgX1_ring_rpU1 sgX1_ring_rpU2 sgX1_ring_rpU3 sgX1_ring_rgG0 u29) ⟨rfl, rfl⟩ ⟨Nat.le_of_ble_eq_true rfl, Nat.le_of_ble_eq_true rfl⟩ ⟨Nat.zero_le _, Nat.zero_le _⟩ hl.1 (Nat.le_of_ble_eq_true rfl) dX1_ring_66 (fun H locs hP hS => ?_)
        rw [sgX1_ring_aI1125] at hP
        cases hf
        rw [hQ]; exact g_iret hx hb hr hlk hP hS dX1_ring_69
      · intro  hex22 H locs hP hS ls hl
        subst ex22
        dsimp only [sE_l, sE_r] at hf
        refine lv_iconst hx hb dX1_ring_76 ic_m1 ?_
        cases hf
        rw [hQ]; exact g_iret hx hb hr hlk hP hS dX1_ring_77
    · have hf := ifT c4 hf
      refine lv_iconst hx hb dX1_ring_14 ic_m1 ?_
      cases hf
      rw [hQ]; exact g_iret hx hb hr hlk hP hS dX1_ring_15
theorem kxX1_ring (l : Launch) (D : va_G) (G : Nat → ClassId) {dsc : Nat → Option Dsc} {ad : Nat → Nat} {σ : Sto} {nr nw nu : Nat} (hD : XD dsc nr nw nu) {x1 : Int32} {r_ : Int32} {w_zI1018 : Int32} {w_zI1062 : Int32} {w_zI1082 : Int32} {w_zL1052 : Int64} {w_aI1108 : Nat → Int32} {w_aI1125 : Nat → Int32} {w_aI1162 : Nat → Int32} {w_aL1140 : Nat → Int64} {w_aL1141 : Nat → Int64} {w_aL1150 : Nat → Int64} {w_aL1152 : Nat → Int64} {z_X_isLaid : Int32} (e_zI1018 : σ.1 1018 = z_X_isLaid) {z_TB_by : Int32} (e_zI1062 : σ.1 1062 = z_TB_by) {z_TS_by : Int32} (e_zI1082 : σ.1 1082 = z_TS_by) {z_ru_size : Int32} (e_zI1262 : σ.1 1262 = z_ru_size) {z_L_places : Int32} (e_zI2008 : σ.1 2008 = z_L_places) {z_L_causes : Int32} (e_zI2009 : σ.1 2009 = z_L_causes) {z_L_from : Int32} (e_zI2012 : σ.1 2012 = z_L_from) {z_L_to : Int32} (e_zI2013 : σ.1 2013 = z_L_to) {z_Ld_size : Int32} (e_zI2027 : σ.1 2027 = z_Ld_size) {z_Lw_size : Int32} (e_zI2032 : σ.1 2032 = z_Lw_size) {z_W_all : Int64} (e_zL1052 : σ.2.1 1052 = z_W_all) {z_TB_none : Int64} (e_zL1061 : σ.2.1 1061 = z_TB_none) {z_TS_none : Int64} (e_zL1081 : σ.2.1 1081 = z_TS_none) {a_X_knowing : Nat → Int32} (e_aI1108 : σ.2.2.1 1108 = a_X_knowing) {a_X_path : Nat → Int32} (e_aI1125 : σ.2.2.1 1125 = a_X_path) {a_p3_far : Nat → Int32} (e_aI1162 : σ.2.2.1 1162 = a_p3_far) {a_UNIT : Nat → Int32} (e_aI1170 : σ.2.2.1 1170 = a_UNIT) {a_ru_data : Nat → Int32} (e_aI1265 : σ.2.2.1 1265 = a_ru_data) {a_Ld_data : Nat → Int32} (e_aI2036 : σ.2.2.1 2036 = a_Ld_data) {a_Lw_data : Nat → Int32} (e_aI2037 : σ.2.2.1 2037 = a_Lw_data) {a_L_comes : Nat → Int32} (e_aI2042 : σ.2.2.1 2042 = a_L_comes) {a_L_seen : Nat → Int32} (e_aI2043 : σ.2.2.1 2043 = a_L_seen) {a_W_world : Nat → Int64} (e_aL1140 : σ.2.2.2.1 1140 = a_W_world) {a_W_likely : Nat → Int64} (e_aL1141 : σ.2.2.2.1 1141 = a_W_likely) {a_TB_value : Nat → Int64} (e_aL1150 : σ.2.2.2.1 1150 = a_TB_value) {a_TS_value : Nat → Int64} (e_aL1152 : σ.2.2.2.1 1152 = a_TS_value) {n_r : Nat} (e_nN0 : nr = n_r) {n_w : Nat} (e_nN1 : nw = n_w) {n_u : Nat} (e_nN2 : nu = n_u) {p_road_hours : Nat → Int32} (e_pR2 : (fun k => σ.1 (6000 + 16 * k + 2)) = p_road_hours) {p_road_doubt : Nat → Int32} (e_pR3 : (fun k => σ.1 (6000 + 16 * k + 3)) = p_road_doubt) {p_road_cause : Nat → Int32} (e_pR4 : (fun k => σ.1 (6000 + 16 * k + 4)) = p_road_cause) {p_road_wait : Nat → Int32} (e_pR5 : (fun k => σ.1 (6000 + 16 * k + 5)) = p_road_wait) {p_road_number : Nat → Int32} (e_pR6 : (fun k => σ.1 (6000 + 16 * k + 6)) = p_road_number) {p_word_place : Nat → Int32} (e_pW0 : (fun k => σ.1 (8000 + 16 * k + 0)) = p_word_place) {p_word_road : Nat → Int32} (e_pW1 : (fun k => σ.1 (8000 + 16 * k + 1)) = p_word_road) {p_word_hours : Nat → Int32} (e_pW2 : (fun k => σ.1 (8000 + 16 * k + 2)) = p_word_hours) {p_rule_place : Nat → Int32} (e_pU0 : (fun k => σ.1 (10000 + 16 * k + 0)) = p_rule_place) {p_rule_road : Nat → Int32} (e_pU1 : (fun k => σ.1 (10000 + 16 * k + 1)) = p_rule_road) {p_rule_known : Nat → Int32} (e_pU2 : (fun k => σ.1 (10000 + 16 * k + 2)) = p_rule_known) {p_rule_to : Nat → Int32} (e_pU3 : (fun k => σ.1 (10000 + 16 * k + 3)) = p_rule_to) {g_grid : Nat → Nat → Int32} (e_gG0 : (fun k => σ.2.2.1 (4000 + 16 * k)) = g_grid) (hf : xo_X1_ring z_X_isLaid z_TB_by z_TS_by z_ru_size z_L_places z_L_causes z_L_from z_L_to z_Ld_size z_Lw_size z_W_all z_TB_none z_TS_none a_X_knowing a_X_path a_p3_far a_UNIT a_ru_data a_Ld_data a_Lw_data a_L_comes a_L_seen a_W_world a_W_likely a_TB_value a_TS_value n_r n_w n_u p_road_hours p_road_doubt p_road_cause p_road_wait p_road_number p_word_place p_word_road p_word_hours p_rule_place p_rule_road p_rule_known p_rule_to g_grid x1 = some (r_, w_zI1018, w_zI1062, w_zI1082, w_zL1052, w_aI1108, w_aI1125, w_aI1162, w_aL1140, w_aL1141, w_aL1150, w_aL1152)) : CtG l D G dsc ad yX1_ring (ws_ yX1_ring cX1_ring 3 (Option.some Jvm.ClassFile.FieldType.int)) rmX1_ring [.ref (ad 1000), .int x1] σ (some (.int r_)) (aL (aL (aL (aL (aI (aI (aI (zL (zI (zI (zI σ 1018 w_zI1018) 1062 w_zI1062) 1082 w_zI1082) 1052 w_zL1052) 1108 w_aI1108) 1125 w_aI1125) 1162 w_aI1162) 1140 w_aL1140) 1141 w_aL1141) 1150 w_aL1150) 1152 w_aL1152) := by
  subst e_zI1018
  subst e_zI1062
  subst e_zI1082
  subst e_zI1262
  subst e_zI2008
  subst e_zI2009
  subst e_zI2012
  subst e_zI2013
  subst e_zI2027
  subst e_zI2032
  subst e_zL1052
  subst e_zL1061
  subst e_zL1081
  subst e_aI1108
  subst e_aI1125
  subst e_aI1162
  subst e_aI1170
  subst e_aI1265
  subst e_aI2036
  subst e_aI2037
  subst e_aI2042
  subst e_aI2043
  subst e_aL1140
  subst e_aL1141
  subst e_aL1150
  subst e_aL1152
  subst e_nN0
  subst e_nN1
  subst e_nN2
  subst e_pR2
  subst e_pR3
  subst e_pR4
  subst e_pR5
  subst e_pR6
  subst e_pW0
  subst e_pW1
  subst e_pW2
  subst e_pU0
  subst e_pU1
  subst e_pU2
  subst e_pU3
  subst e_gG0
  exact p_ctG (by decide +kernel) (Nat.le_of_ble_eq_true rfl) (fun p e s m below meth c0 ls A E hP hX hA hS hl => wkX1_ring E hX hD hA hf rfl hP hS hl)
theorem gx_X1_354_1480 (E : EN p s m args meth c0 RX1 cc nL ret) (hX : KX D G ad A s s.heap) (hD : XD dsc nr nw nu) (hP : PIC D clsA G dsc ad σ H) (hdg : decode cc pc = .ok (.getfield 354, 3)) (kk : W p l e R s m args below meth c0 H locs cells slots Q (F0 m (pc + 3) ls (.ref (ad 1164) :: rest))) : W p l e R s m args below meth c0 H locs cells slots Q (F0 m pc ls (.ref (ad 1480) :: rest)) :=
  p_getN E.1.1 E.1.2.1 E.1.2.2.2.2 in_X12 E.1.2.2.2.1 hX.1 hP (hD.1 _ _ dX_1480) rfl 4 (by decide) (hX.2.1.1 _ q428 rfl) (fun _ h => h) rfl rfl hdg kk
/-! X1_row (I)I -/
def sgX1_row (σ : Sto) (w0 : Int32) (w1 : Nat → Int32) : Sto := aI (zI σ 1485 w0) 1164 w1
theorem sgX1_row_self (σ : Sto) : sgX1_row σ (σ.1 1485) (σ.2.2.1 1164) = σ := by
  unfold sgX1_row
  simp only [zI_self, zL_self, aI_self, aL_self]
theorem sgX1_row_zI1485 {σ : Sto} {w0 : Int32} {w1 : Nat → Int32} {g : Int32} : zI (sgX1_row σ w0 w1) 1485 g = sgX1_row σ g w1 := (cm_zI_aI _ _ _ _ _).trans (congrArg (fun z => aI z 1164 w1) (zI_zI _ 1485 _ _))
theorem sgX1_row_aI1164 {σ : Sto} {w0 : Int32} {w1 : Nat → Int32} {g : Nat → Int32} : aI (sgX1_row σ w0 w1) 1164 g = sgX1_row σ w0 g := aI_aI _ 1164 _ _
theorem sgX1_row_rzI1485 {σ : Sto} {w0 : Int32} {w1 : Nat → Int32} : (sgX1_row σ w0 w1).1 1485 = w0 := rfl
theorem sgX1_row_rzI2027 {σ : Sto} {w0 : Int32} {w1 : Nat → Int32} : (sgX1_row σ w0 w1).1 2027 = σ.1 2027 := rfl
theorem sgX1_row_raI1164 {σ : Sto} {w0 : Int32} {w1 : Nat → Int32} : (sgX1_row σ w0 w1).2.2.1 1164 = w1 := rfl
abbrev rmX1_row : Room := { frames := 2, cells := 0, slots := 0, locals := 43 }
set_option maxHeartbeats 4000000 in
theorem wkX1_row {x1 : Int32} {r_ : Int32} {w_zI1485 : Int32} {w_aI1164 : Nat → Int32} (E : EN p s m args meth c0 RX1 cX1_row 3 (Option.some Jvm.ClassFile.FieldType.int)) (hX : KX D G ad A s s.heap) (hD : XD dsc nr nw nu) (hA : ∀ q, PA dsc ad s.heap.size q → A q) (hf : xo_X1_row (σ.1 1485) (σ.1 2027) (σ.2.2.1 1164) x1 = some (r_, w_zI1485, w_aI1164)) (hQ : Q = MQ below (va_G1 (some (.int r_)) (fun t => PIC D clsA G dsc ad (sgX1_row σ w_zI1485 w_aI1164) t.heap) A) args s 0 0 A) (hP : PIC D clsA G dsc ad σ H) (hS : va_S A s.heap H locs) (hl : lv_has ls 3 [(0, .ref (ad 1000)), (1, .int x1)]) : W p l e rmX1_row s m args below meth c0 H locs 0 0 Q (F0 m 0 ls []) := by
  obtain ⟨⟨hx, hb, hml, hown, hts⟩, hr, hlk⟩ := id E
  have hP := hP.to (sgX1_row_self σ).symm
  unfold xo_X1_row at hf
  refine lv_aload_n hx hb dX1_row_0 rfl (lv_at hl 0 rfl) ?_
  refine lv_iload_n hx hb dX1_row_1 rfl (lv_at hl 1 rfl) ?_
  obtain ⟨v1, u2, hf⟩ := bdP hf
  refine cx_X1_287_X1_isDoubtful E hX hD hP hS hA (kxX1_isDoubtful l D G hD sgX1_row_rzI2027 u2) ⟨rfl, rfl⟩ ⟨Nat.le_of_ble_eq_true rfl, Nat.le_of_ble_eq_true rfl⟩ ⟨Nat.zero_le _, Nat.zero_le _⟩ hl.1 (Nat.le_of_ble_eq_true rfl) dX1_row_2 (fun H locs hP hS => ?_)
  refine lv_if_ne (tgt := 10) hx hb dX1_row_5 (by decide) (fun c3 => ?_) (fun c3 => ?_)
  · have hf := ifF c3 hf
    refine lv_iconst hx hb dX1_row_10 ic_0 ?_
    refine lv_istore_n (lv' := [(2, .int 0), (0, .ref (ad 1000)), (1, .int x1)]) hx hb dX1_row_11 rfl hl (by decide) rfl (fun ls hl => ?_)
    have LP12 : ∀ (st12 : Int32) (ex12 : (Unit) ⊕ (Unit)), loop (xo_X1_row_L12 (σ.1 1485) (σ.2.2.1 1164) x1) st12 = some ex12 → ∀ (H : Heap) (locs : List Loc), PIC D clsA G dsc ad (sgX1_row σ (σ.1 1485) (σ.2.2.1 1164)) H → va_S A s.heap H locs → ∀ (ls : Array Slot), lv_has ls 3 [(0, .ref (ad 1000)), (1, .int x1), (2, .int st12)] → (ex12 = (.inl (())) → ∀ (H : Heap) (locs : List Loc), PIC D clsA G dsc ad (sgX1_row σ (σ.1 1485) (σ.2.2.1 1164)) H → va_S A s.heap H locs → ∀ (ls : Array Slot), lv_has ls 3 [] → W p l e rmX1_row s m args below meth c0 H locs 0 0 Q (F0 m 36 ls [])) → (ex12 = (.inr ()) → ∀ (H : Heap) (locs : List Loc), PIC D clsA G dsc ad (sgX1_row σ (σ.1 1485) (σ.2.2.1 1164)) H → va_S A s.heap H locs → ∀ (ls : Array Slot), lv_has ls 3 [(0, .ref (ad 1000)), (1, .int x1)] → W p l e rmX1_row s m args below meth c0 H locs 0 0 Q (F0 m 44 ls [])) → W p l e rmX1_row s m args below meth c0 H locs 0 0 Q (F0 m 12 ls []) := by
      refine loop_P (fun st12 ex12 o12 hf ih12 hx12 => ?_)
      obtain ⟨y4, rfl⟩ : ∃ z, z = st12 := ⟨_, rfl⟩
      intro H locs (hP : PIC D clsA G dsc ad (sgX1_row σ (σ.1 1485) (σ.2.2.1 1164)) H) hS ls (hl : lv_has ls 3 [(0, .ref (ad 1000)), (1, .int x1), (2, .int y4)]) KE12_0 KE12_1
      dsimp only [xo_X1_row_L12] at hf
      refine lv_iload_n hx hb dX1_row_12 rfl (lv_at hl 2 rfl) ?_
      refine lv_aload_n hx hb dX1_row_13 rfl (lv_at hl 0 rfl) ?_
      refine gx_X1_77_1000 E hX hD hP dX1_row_14 ?_
      refine gx_X1_165_1480 (v := (σ.1 1485)) E hX hD hP sgX1_row_rzI1485 dX1_row_17 ?_
      refine lv_icmp_ge (tgt := 44) hx hb dX1_row_20 (by decide) (fun c5 => ?_) (fun c5 => ?_)
      · have hf := ifT c5 hf
        exact KE12_1  (hx12 _ (Option.some.inj hf).symm).symm H locs hP hS ls (lv_sub hl [0, 1] rfl)
      · have hf := ifF c5 hf
        refine lv_aload_n hx hb dX1_row_23 rfl (lv_at hl 0 rfl) ?_
        refine gx_X1_77_1000 E hX hD hP dX1_row_24 ?_
        refine gx_X1_354_1480 E hX hD hP dX1_row_27 ?_
        refine lv_iload_n hx hb dX1_row_30 rfl (lv_at hl 2 rfl) ?_
        obtain ⟨v6, hv6, hf⟩ := bdP hf
        refine p_iald hx hb hX.1 hP (hD.1 _ _ dX_1164) sgX1_row_raI1164 hv6 dX1_row_31 ?_
        refine lv_iload_n hx hb dX1_row_32 rfl (lv_at hl 1 rfl) ?_
        refine lv_icmp_ne (tgt := 38) hx hb dX1_row_33 (by decide) (fun c7 => ?_) (fun c7 => ?_)
        · have hf := ifF c7 hf
          obtain ⟨v8, hv8, hf⟩ := bdP hf
          refine lv_iinc (v := v8) (lv' := [(2, .int v8), (0, .ref (ad 1000)), (1, .int x1)]) hx hb dX1_row_38 hl (k := 2) rfl (Option.some.inj hv8) (by decide) rfl (fun ls hl => ?_)
          refine lv_goto (tgt := 12) hx hb dX1_row_41 (by decide) ?_
          exact ih12 _ (Option.some.inj hf).symm H locs hP hS ls (lv_sub hl [1, 2, 0] rfl) KE12_0 KE12_1
        · have hf := ifT c7 hf
          exact KE12_0  (hx12 _ (Option.some.inj hf).symm).symm H locs hP hS ls (lv_sub hl [] rfl)
    obtain ⟨ex12, hlp12, hf⟩ := bdP hf
    refine LP12 0 ex12 hlp12 H locs hP hS ls (lv_sub hl [1, 2, 0] rfl) ?_ ?_
    · intro  hex12 H locs hP hS ls hl
      subst ex12
      dsimp only [sE_l, sE_r] at hf
      refine lv_iconst hx hb dX1_row_36 ic_m1 ?_
      cases hf
      rw [hQ]; exact g_iret hx hb hr hlk hP hS dX1_row_37
    · intro  hex12 H locs hP hS ls hl
      subst ex12
      dsimp only [sE_l, sE_r] at hf
      refine lv_aload_n hx hb dX1_row_44 rfl (lv_at hl 0 rfl) ?_
      refine gx_X1_77_1000 E hX hD hP dX1_row_45 ?_
      refine gx_X1_354_1480 E hX hD hP dX1_row_48 ?_
      refine lv_aload_n hx hb dX1_row_51 rfl (lv_at hl 0 rfl) ?_
      refine gx_X1_77_1000 E hX hD hP dX1_row_52 ?_
      refine gx_X1_165_1480 (v := (σ.1 1485)) E hX hD hP sgX1_row_rzI1485 dX1_row_55 ?_
      refine lv_iload_n hx hb dX1_row_58 rfl (lv_at hl 1 rfl) ?_
      obtain ⟨a9, ha9, hf⟩ := bdP hf
      refine p_iast hx hb hX.1 hP hS (hA _ (PA_c (hD.1 _ _ dX_1164))) (hD.1 _ _ dX_1164) sgX1_row_raI1164 ha9 sgX1_row_aI1164 dX1_row_59 (fun H locs hP hS => ?_)
      refine lv_aload_n hx hb dX1_row_60 rfl (lv_at hl 0 rfl) ?_
      refine gx_X1_77_1000 E hX hD hP dX1_row_61 ?_
      refine lv_dup hx hb dX1_row_64 rfl ?_
      refine gx_X1_165_1480 (v := (σ.1 1485)) E hX hD hP sgX1_row_rzI1485 dX1_row_65 ?_
      refine lv_iconst hx hb dX1_row_68 ic_1 ?_
      refine lv_iadd hx hb dX1_row_69 ?_
      obtain ⟨v10, hv10, hf⟩ := bdP hf
      refine nm_i (Option.some.inj hv10) ?_
      refine ux_X1_165_1480 E hX hD hP hS (hA _ (PA_c (hD.1 _ _ dX_1480))) sgX1_row_zI1485 dX1_row_70 (fun H locs hP hS => ?_)
      refine lv_aload_n hx hb dX1_row_73 rfl (lv_at hl 0 rfl) ?_
      refine gx_X1_77_1000 E hX hD hP dX1_row_74 ?_
      refine gx_X1_165_1480 (v := v10) E hX hD hP sgX1_row_rzI1485 dX1_row_77 ?_
      cases hf
      rw [hQ]; exact g_iret hx hb hr hlk hP hS dX1_row_80
  · have hf := ifT c3 hf
    refine lv_iconst hx hb dX1_row_8 ic_m1 ?_
    cases hf
    rw [hQ]; exact g_iret hx hb hr hlk hP hS dX1_row_9
theorem kxX1_row (l : Launch) (D : va_G) (G : Nat → ClassId) {dsc : Nat → Option Dsc} {ad : Nat → Nat} {σ : Sto} {nr nw nu : Nat} (hD : XD dsc nr nw nu) {x1 : Int32} {r_ : Int32} {w_zI1485 : Int32} {w_aI1164 : Nat → Int32} {z_p5_many : Int32} (e_zI1485 : σ.1 1485 = z_p5_many) {z_Ld_size : Int32} (e_zI2027 : σ.1 2027 = z_Ld_size) {a_p5_row : Nat → Int32} (e_aI1164 : σ.2.2.1 1164 = a_p5_row) (hf : xo_X1_row z_p5_many z_Ld_size a_p5_row x1 = some (r_, w_zI1485, w_aI1164)) : CtG l D G dsc ad yX1_row (ws_ yX1_row cX1_row 3 (Option.some Jvm.ClassFile.FieldType.int)) rmX1_row [.ref (ad 1000), .int x1] σ (some (.int r_)) (aI (zI σ 1485 w_zI1485) 1164 w_aI1164) := by
  subst e_zI1485
  subst e_zI2027
  subst e_aI1164
  exact p_ctG (by decide +kernel) (Nat.le_of_ble_eq_true rfl) (fun p e s m below meth c0 ls A E hP hX hA hS hl => wkX1_row E hX hD hA hf rfl hP hS hl)
theorem gx_X9_3_1512 (E : EN p s m args meth c0 RX9 cc nL ret) (hX : KX D G ad A s s.heap) (hD : XD dsc nr nw nu) (hP : PIC D clsA G dsc ad σ H) (hdg : decode cc pc = .ok (.getfield 3, 3)) (kk : W p l e R s m args below meth c0 H locs cells slots Q (F0 m (pc + 3) ls (.ref (ad 1000) :: rest))) : W p l e R s m args below meth c0 H locs cells slots Q (F0 m pc ls (.ref (ad 1512) :: rest)) :=
  p_get E.1.1 E.1.2.1 E.1.2.2.2.2 in_X12 E.1.2.2.2.1 hX.1 hP (hD.1 _ _ dX_1512) rfl 2 (by decide) (E.1.2.2.2.2 _ q435) (fun _ h => h) rfl rfl hdg kk
theorem cx_X9_32_X10_next_p8 {rm : Room} {σ1 : Sto} {x1 : Int32} {x2 : Int32} {r : Int32} (E : EN p s m args meth c0 RX9 cc nL ret) (hX : KX D G ad A s s.heap) (hD : XD dsc nr nw nu) (hP : PIC D clsA G dsc ad σ H) (hS : va_S A s.heap H locs) (hA : ∀ q, PA dsc ad s.heap.size q → A q) (hM : CtG l D G dsc ad yX10_next (ws_ yX10_next cX10_next 7 (Option.some Jvm.ClassFile.FieldType.int)) rm [.ref (ad 1512), .int x1, .int x2] σ (some (.int r)) σ1) (hz : rm.cells = 0 ∧ rm.slots = 0) (hR : rm.frames + 1 ≤ R.frames ∧ 8 + (7 + 11) + rm.locals ≤ R.locals) (hcs : cells ≤ R.cells ∧ slots ≤ R.slots) (hsz : ls.size = nL) (hW : (rest.map fun v => v.category).sum ≤ 8) (hdg : decode cc pc = .ok (.invokevirtual 32, 3)) (kk : ∀ (H1 : Heap) (locs1 : List Loc), PIC D clsA G dsc ad σ1 H1 → va_S A s.heap H1 locs1 → W p l e R s m args below meth c0 H1 locs1 cells slots Q (F0 m (pc + 3) ls (.int r :: rest))) : W p l e R s m args below meth c0 H locs cells slots Q (F0 m pc ls (.int x2 :: .int x1 :: .ref (ad 1512) :: rest)) :=
  p_gU (As := [.int x1, .int x2]) (rest := rest) E.1 hX hP hS hA hM (cw_any (owner := "ShutPasses$Plan") (x := ⟨"ShutPasses$Plan", "next", "(II)I"⟩) (y := yX10_next) (C := "ShutPasses$Tries") (index := 32) (own := RX9) 2 E.1.2.2.2.2 (lw_meth q1204) rfl hz.1 hz.2 (E.1.2.2.2.2 _ q1288) (E.1.2.2.2.2 _ q1290) (va_Decl.abs (hX.2.1.1 _ q1289 rfl)) (E.1.2.2.2.2 _ q1312) (E.1.2.2.2.2 _ q1203) (E.1.2.2.2.2 _ q136) (by decide +kernel) hR) (hD.1 _ _ dX_1512) rfl rfl rfl hsz rfl hW hdg hcs kk
/-! X9_hours_p8 (I)I -/
def sgX9_hours_p8 (σ : Sto) (w0 : Nat → Int32) : Sto := aI σ 1161 w0
theorem sgX9_hours_p8_self (σ : Sto) : sgX9_hours_p8 σ (σ.2.2.1 1161) = σ := by
  unfold sgX9_hours_p8
  simp only [zI_self, zL_self, aI_self, aL_self]
theorem sgX9_hours_p8_aI1161 {σ : Sto} {w0 : Nat → Int32} {g : Nat → Int32} : aI (sgX9_hours_p8 σ w0) 1161 g = sgX9_hours_p8 σ g := aI_aI _ 1161 _ _
theorem sgX9_hours_p8_rzI1517 {σ : Sto} {w0 : Nat → Int32} : (sgX9_hours_p8 σ w0).1 1517 = σ.1 1517 := rfl
theorem sgX9_hours_p8_rzI2008 {σ : Sto} {w0 : Nat → Int32} : (sgX9_hours_p8 σ w0).1 2008 = σ.1 2008 := rfl
theorem sgX9_hours_p8_rzI2012 {σ : Sto} {w0 : Nat → Int32} : (sgX9_hours_p8 σ w0).1 2012 = σ.1 2012 := rfl
theorem sgX9_hours_p8_rzI2013 {σ : Sto} {w0 : Nat → Int32} : (sgX9_hours_p8 σ w0).1 2013 = σ.1 2013 := rfl
theorem sgX9_hours_p8_rzI2027 {σ : Sto} {w0 : Nat → Int32} : (sgX9_hours_p8 σ w0).1 2027 = σ.1 2027 := rfl
theorem sgX9_hours_p8_rzI2032 {σ : Sto} {w0 : Nat → Int32} : (sgX9_hours_p8 σ w0).1 2032 = σ.1 2032 := rfl
theorem sgX9_hours_p8_raI1161 {σ : Sto} {w0 : Nat → Int32} : (sgX9_hours_p8 σ w0).2.2.1 1161 = w0 := rfl
theorem sgX9_hours_p8_raI1165 {σ : Sto} {w0 : Nat → Int32} : (sgX9_hours_p8 σ w0).2.2.1 1165 = σ.2.2.1 1165 := rfl
theorem sgX9_hours_p8_raI1170 {σ : Sto} {w0 : Nat → Int32} : (sgX9_hours_p8 σ w0).2.2.1 1170 = σ.2.2.1 1170 := rfl
theorem sgX9_hours_p8_raI2037 {σ : Sto} {w0 : Nat → Int32} : (sgX9_hours_p8 σ w0).2.2.1 2037 = σ.2.2.1 2037 := rfl
theorem sgX9_hours_p8_raI2043 {σ : Sto} {w0 : Nat → Int32} : (sgX9_hours_p8 σ w0).2.2.1 2043 = σ.2.2.1 2043 := rfl
theorem sgX9_hours_p8_rpR2 {σ : Sto} {w0 : Nat → Int32} : (fun k => (sgX9_hours_p8 σ w0).1 (6000 + 16 * k + 2)) = (fun k => σ.1 (6000 + 16 * k + 2)) := by
  funext k
  unfold sgX9_hours_p8
  dsimp only [zI, zL, aI, aL]
  repeat rw [if_neg (by omega)]
theorem sgX9_hours_p8_rpR5 {σ : Sto} {w0 : Nat → Int32} : (fun k => (sgX9_hours_p8 σ w0).1 (6000 + 16 * k + 5)) = (fun k => σ.1 (6000 + 16 * k + 5)) := by
  funext k
  unfold sgX9_hours_p8
  dsimp only [zI, zL, aI, aL]
  repeat rw [if_neg (by omega)]
theorem sgX9_hours_p8_rpR6 {σ : Sto} {w0 : Nat → Int32} : (fun k => (sgX9_hours_p8 σ w0).1 (6000 + 16 * k + 6)) = (fun k => σ.1 (6000 + 16 * k + 6)) := by
  funext k
  unfold sgX9_hours_p8
  dsimp only [zI, zL, aI, aL]
  repeat rw [if_neg (by omega)]
theorem sgX9_hours_p8_rpW1 {σ : Sto} {w0 : Nat → Int32} : (fun k => (sgX9_hours_p8 σ w0).1 (8000 + 16 * k + 1)) = (fun k => σ.1 (8000 + 16 * k + 1)) := by
  funext k
  unfold sgX9_hours_p8
  dsimp only [zI, zL, aI, aL]
  repeat rw [if_neg (by omega)]
theorem sgX9_hours_p8_rpW2 {σ : Sto} {w0 : Nat → Int32} : (fun k => (sgX9_hours_p8 σ w0).1 (8000 + 16 * k + 2)) = (fun k => σ.1 (8000 + 16 * k + 2)) := by
  funext k
  unfold sgX9_hours_p8
  dsimp only [zI, zL, aI, aL]
  repeat rw [if_neg (by omega)]
theorem sgX9_hours_p8_rgG0 {σ : Sto} {w0 : Nat → Int32} : (fun k => (sgX9_hours_p8 σ w0).2.2.1 (4000 + 16 * k)) = (fun k => σ.2.2.1 (4000 + 16 * k)) := by
  funext k
  unfold sgX9_hours_p8
  dsimp only [zI, zL, aI, aL]
  repeat rw [if_neg (by omega)]
abbrev rmX9_hours_p8 : Room := { frames := 4, cells := 0, slots := 0, locals := 96 }
set_option maxHeartbeats 4000000 in
theorem wkX9_hours_p8 {x1 : Int32} {r_ : Int32} {w_aI1161 : Nat → Int32} (E : EN p s m args meth c0 RX9 cX9_hours 9 (Option.some Jvm.ClassFile.FieldType.int)) (hX : KX D G ad A s s.heap) (hD : XD dsc nr nw nu) (hA : ∀ q, PA dsc ad s.heap.size q → A q) (hf : xo_X9_hours_p5 (σ.1 1517) (σ.1 2008) (σ.1 2012) (σ.1 2013) (σ.1 2027) (σ.1 2032) (σ.2.2.1 1161) (σ.2.2.1 1165) (σ.2.2.1 1170) (σ.2.2.1 2037) (σ.2.2.1 2043) nr nw (fun k => σ.1 (6000 + 16 * k + 2)) (fun k => σ.1 (6000 + 16 * k + 5)) (fun k => σ.1 (6000 + 16 * k + 6)) (fun k => σ.1 (8000 + 16 * k + 1)) (fun k => σ.1 (8000 + 16 * k + 2)) (fun k => σ.2.2.1 (4000 + 16 * k)) x1 = some (r_, w_aI1161)) (hQ : Q = MQ below (va_G1 (some (.int r_)) (fun t => PIC D clsA G dsc ad (sgX9_hours_p8 σ w_aI1161) t.heap) A) args s 0 0 A) (hP : PIC D clsA G dsc ad σ H) (hS : va_S A s.heap H locs) (hl : lv_has ls 9 [(0, .ref (ad 1512)), (1, .int x1)]) : W p l e rmX9_hours_p8 s m args below meth c0 H locs 0 0 Q (F0 m 0 ls []) := by
  obtain ⟨⟨hx, hb, hml, hown, hts⟩, hr, hlk⟩ := id E
  have hP := hP.to (sgX9_hours_p8_self σ).symm
  unfold xo_X9_hours_p5 at hf
  refine lv_aload_n hx hb dX9_hours_0 rfl (lv_at hl 0 rfl) ?_
  refine gx_X9_3_1512 E hX hD hP dX9_hours_1 ?_
  refine gx_X9_15_1000 E hX hD hP dX9_hours_4 ?_
  refine gx_X9_19_2000 (v := (σ.1 2012)) E hX hD hP sgX9_hours_p8_rzI2012 dX9_hours_7 ?_
  refine lv_istore_n (lv' := [(2, .int (σ.1 2012)), (0, .ref (ad 1512)), (1, .int x1)]) hx hb dX9_hours_10 rfl hl (by decide) rfl (fun ls hl => ?_)
  refine lv_aload_n hx hb dX9_hours_11 rfl (lv_at hl 1 rfl) ?_
  refine gx_X9_3_1512 E hX hD hP dX9_hours_12 ?_
  refine lv_iload_n hx hb dX9_hours_15 rfl (lv_at hl 0 rfl) ?_
  refine lv_iconst hx hb dX9_hours_16 ic_0 ?_
  refine lv_iload_n hx hb dX9_hours_17 rfl (lv_at hl 2 rfl) ?_
  obtain ⟨v1, u2, hf⟩ := bdP hf
  refine cx_X9_25_X1_seeing E hX hD hP hS hA (kxX1_seeing l D G hD sgX9_hours_p8_rzI2027 sgX9_hours_p8_raI1170 sgX9_hours_p8_raI2043 u2) ⟨rfl, rfl⟩ ⟨Nat.le_of_ble_eq_true rfl, Nat.le_of_ble_eq_true rfl⟩ ⟨Nat.zero_le _, Nat.zero_le _⟩ hl.1 (Nat.le_of_ble_eq_true rfl) dX9_hours_18 (fun H locs hP hS => ?_)
  refine lv_istore_n (lv' := [(3, .int v1), (2, .int (σ.1 2012)), (0, .ref (ad 1512)), (1, .int x1)]) hx hb dX9_hours_21 rfl hl (by decide) rfl (fun ls hl => ?_)
  refine lv_iconst hx hb dX9_hours_22 ic_0 ?_
  refine lv_istore (lv' := [(4, .int 0), (3, .int v1), (2, .int (σ.1 2012)), (0, .ref (ad 1512)), (1, .int x1)]) hx hb dX9_hours_23 hl (by decide) rfl (fun ls hl => ?_)
  refine lv_iconst hx hb dX9_hours_25 ic_0 ?_
  refine lv_istore (lv' := [(5, .int 0), (4, .int 0), (3, .int v1), (2, .int (σ.1 2012)), (0, .ref (ad 1512)), (1, .int x1)]) hx hb dX9_hours_26 hl (by decide) rfl (fun ls hl => ?_)
  have LP28 : ∀ (st28 : Int32 × Int32 × Int32 × Int32 × (Nat → Int32)) (ex28 : ((Nat → Int32)) ⊕ (Int32 × (Nat → Int32))), loop (xo_X9_hours_p5_L28 (σ.1 1517) (σ.1 2008) (σ.1 2013) (σ.1 2027) (σ.1 2032) (σ.2.2.1 1165) (σ.2.2.1 1170) (σ.2.2.1 2037) (σ.2.2.1 2043) nr nw (fun k => σ.1 (6000 + 16 * k + 2)) (fun k => σ.1 (6000 + 16 * k + 5)) (fun k => σ.1 (6000 + 16 * k + 6)) (fun k => σ.1 (8000 + 16 * k + 1)) (fun k => σ.1 (8000 + 16 * k + 2)) (fun k => σ.2.2.1 (4000 + 16 * k)) x1) st28 = some ex28 → ∀ (H : Heap) (locs : List Loc), PIC D clsA G dsc ad (sgX9_hours_p8 σ (st28.2.2.2.2)) H → va_S A s.heap H locs → ∀ (ls : Array Slot), lv_has ls 9 [(0, .ref (ad 1512)), (1, .int x1), (2, .int (st28.1)), (3, .int (st28.2.1)), (4, .int (st28.2.2.1)), (5, .int (st28.2.2.2.1))] → (∀ (a34 : Nat → Int32), ex28 = (.inl a34) → ∀ (H : Heap) (locs : List Loc), PIC D clsA G dsc ad (sgX9_hours_p8 σ a34) H → va_S A s.heap H locs → ∀ (ls : Array Slot), lv_has ls 9 [] → W p l e rmX9_hours_p8 s m args below meth c0 H locs 0 0 Q (F0 m 64 ls [])) → (∀ (y35 : Int32) (a36 : Nat → Int32), ex28 = (.inr (y35, a36)) → ∀ (H : Heap) (locs : List Loc), PIC D clsA G dsc ad (sgX9_hours_p8 σ a36) H → va_S A s.heap H locs → ∀ (ls : Array Slot), lv_has ls 9 [(4, .int y35)] → W p l e rmX9_hours_p8 s m args below meth c0 H locs 0 0 Q (F0 m 186 ls [])) → W p l e rmX9_hours_p8 s m args below meth c0 H locs 0 0 Q (F0 m 28 ls []) := by
    refine loop_P (fun st28 ex28 o28 hf ih28 hx28 => ?_)
    obtain ⟨y3, y4, y5, y6, a7⟩ := st28
    intro H locs (hP : PIC D clsA G dsc ad (sgX9_hours_p8 σ a7) H) hS ls (hl : lv_has ls 9 [(0, .ref (ad 1512)), (1, .int x1), (2, .int y3), (3, .int y4), (4, .int y5), (5, .int y6)]) KE28_0 KE28_1
    dsimp only [xo_X9_hours_p5_L28] at hf
    refine lv_iload_n hx hb dX9_hours_28 rfl (lv_at hl 2 rfl) ?_
    refine lv_aload_n hx hb dX9_hours_29 rfl (lv_at hl 0 rfl) ?_
    refine gx_X9_3_1512 E hX hD hP dX9_hours_30 ?_
    refine gx_X9_15_1000 E hX hD hP dX9_hours_33 ?_
    refine gx_X9_29_2000 (v := (σ.1 2013)) E hX hD hP sgX9_hours_p8_rzI2013 dX9_hours_36 ?_
    refine lv_icmp_eq (tgt := 186) hx hb dX9_hours_39 (by decide) (fun c8 => ?_) (fun c8 => ?_)
    · have hf := ifT c8 hf
      exact KE28_1 _ _ (hx28 _ (Option.some.inj hf).symm).symm H locs hP hS ls (lv_sub hl [4] rfl)
    · have hf := ifF c8 hf
      refine lv_aload_n hx hb dX9_hours_42 rfl (lv_at hl 0 rfl) ?_
      refine lv_iload_n hx hb dX9_hours_43 rfl (lv_at hl 2 rfl) ?_
      refine lv_iload_n hx hb dX9_hours_44 rfl (lv_at hl 3 rfl) ?_
      obtain ⟨⟨v9, a10⟩, u11, hf⟩ := bdP hf
      dsimp only at hf
      refine cx_X9_32_X10_next_p8 E hX hD hP hS hA (kxX10_next_p8 l D G hD sgX9_hours_p8_rzI1517 sgX9_hours_p8_rzI2008 sgX9_hours_p8_rzI2013 sgX9_hours_p8_raI1161 sgX9_hours_p8_raI1165 sgX9_hours_p8_raI1170 rfl sgX9_hours_p8_rpR2 sgX9_hours_p8_rpR5 sgX9_hours_p8_rpR6 sgX9_hours_p8_rgG0 u11) ⟨rfl, rfl⟩ ⟨Nat.le_of_ble_eq_true rfl, Nat.le_of_ble_eq_true rfl⟩ ⟨Nat.zero_le _, Nat.zero_le _⟩ hl.1 (Nat.le_of_ble_eq_true rfl) dX9_hours_45 (fun H locs hP hS => ?_)
      rw [sgX9_hours_p8_aI1161] at hP
      refine lv_istore (lv' := [(6, .int v9), (0, .ref (ad 1512)), (1, .int x1), (2, .int y3), (3, .int y4), (4, .int y5), (5, .int y6)]) hx hb dX9_hours_48 hl (by decide) rfl (fun ls hl => ?_)
      refine lv_iload hx hb dX9_hours_50 (lv_at hl 0 rfl) ?_
      refine lv_bipush hx hb dX9_hours_52 bp_m2 ?_
      refine lv_icmp_eq (tgt := 64) hx hb dX9_hours_54 (by decide) (fun c12 => ?_) (fun c12 => ?_)
      · have hf := ifT c12 hf
        exact KE28_0 _ (hx28 _ (Option.some.inj hf).symm).symm H locs hP hS ls (lv_sub hl [] rfl)
      · have hf := ifF c12 hf
        refine lv_iload hx hb dX9_hours_57 (lv_at hl 6 rfl) ?_
        refine lv_bipush hx hb dX9_hours_59 bp_10 ?_
        refine lv_icmp_le (tgt := 67) hx hb dX9_hours_61 (by decide) (fun c13 => ?_) (fun c13 => ?_)
        · have hf := ifT c13 hf
          refine lv_iload_n hx hb dX9_hours_67 rfl (lv_at hl 4 rfl) ?_
          refine lv_istore (lv' := [(7, .int y4), (6, .int v9), (0, .ref (ad 1512)), (1, .int x1), (2, .int y3), (3, .int y4), (4, .int y5), (5, .int y6)]) hx hb dX9_hours_68 hl (by decide) rfl (fun ls hl => ?_)
          refine lv_iload hx hb dX9_hours_70 (lv_at hl 1 rfl) ?_
          refine lv_bipush hx hb dX9_hours_72 bp_100 ?_
          have J167 : ∀ (y14 : Int32) (y15 : Int32) (y16 : Int32), xo_X9_hours_p5_J167 y4 y6 a10 y14 y15 y16 = some o28 → ∀ (H : Heap) (locs : List Loc), PIC D clsA G dsc ad (sgX9_hours_p8 σ a10) H → va_S A s.heap H locs → ∀ (ls : Array Slot), lv_has ls 9 [(0, .ref (ad 1512)), (1, .int x1), (2, .int y14), (3, .int y15), (4, .int y16), (5, .int y6), (7, .int y4)] → W p l e rmX9_hours_p8 s m args below meth c0 H locs 0 0 Q (F0 m 167 ls []) := by
            intro y14 y15 y16 hf H locs hP hS ls hl
            unfold xo_X9_hours_p5_J167 at hf
            refine lv_iload_n hx hb dX9_hours_167 rfl (lv_at hl 3 rfl) ?_
            refine lv_iload hx hb dX9_hours_168 (lv_at hl 6 rfl) ?_
            have J181 : ∀ (k17 : Int32), xo_X9_hours_p5_J181 a10 y14 y15 y16 k17 = some o28 → ∀ (H : Heap) (locs : List Loc), PIC D clsA G dsc ad (sgX9_hours_p8 σ a10) H → va_S A s.heap H locs → ∀ (ls : Array Slot), lv_has ls 9 [(0, .ref (ad 1512)), (1, .int x1), (2, .int y14), (3, .int y15), (4, .int y16)] → W p l e rmX9_hours_p8 s m args below meth c0 H locs 0 0 Q (F0 m 181 ls [.int k17]) := by
              intro k17 hf H locs hP hS ls hl
              unfold xo_X9_hours_p5_J181 at hf
              refine lv_istore (lv' := [(5, .int k17), (0, .ref (ad 1512)), (1, .int x1), (2, .int y14), (3, .int y15), (4, .int y16)]) hx hb dX9_hours_181 hl (by decide) rfl (fun ls hl => ?_)
              refine lv_goto (tgt := 28) hx hb dX9_hours_183 (by decide) ?_
              exact ih28 _ (Option.some.inj hf).symm H locs hP hS ls (lv_sub hl [1, 2, 3, 4, 5, 0] rfl) KE28_0 KE28_1
            refine lv_icmp_ne (tgt := 180) hx hb dX9_hours_170 (by decide) (fun c18 => ?_) (fun c18 => ?_)
            · have hf := ifF c18 hf
              refine lv_iconst hx hb dX9_hours_180 ic_0 ?_
              exact J181 0 hf H locs hP hS ls (lv_sub hl [0, 1, 2, 3, 4] rfl)
            · have hf := ifT c18 hf
              refine lv_iload hx hb dX9_hours_173 (lv_at hl 5 rfl) ?_
              refine lv_iconst hx hb dX9_hours_175 ic_1 ?_
              refine lv_iadd hx hb dX9_hours_176 ?_
              refine lv_goto (tgt := 181) hx hb dX9_hours_177 (by decide) ?_
              exact J181 (y6 + 1) hf H locs hP hS ls (lv_sub hl [0, 1, 2, 3, 4] rfl)
          refine lv_icmp_lt (tgt := 134) hx hb dX9_hours_74 (by decide) (fun c19 => ?_) (fun c19 => ?_)
          · have hf := ifT c19 hf
            refine lv_iload hx hb dX9_hours_134 (lv_at hl 6 rfl) ?_
            refine lv_aload_n hx hb dX9_hours_136 rfl (lv_at hl 2 rfl) ?_
            refine gx_X9_3_1512 E hX hD hP dX9_hours_137 ?_
            refine gx_X9_15_1000 E hX hD hP dX9_hours_140 ?_
            refine lv_iload_n hx hb dX9_hours_143 rfl (lv_at hl 4 rfl) ?_
            refine lv_iload hx hb dX9_hours_144 (lv_at hl 1 rfl) ?_
            refine lv_iload_n hx hb dX9_hours_146 rfl (lv_at hl 5 rfl) ?_
            obtain ⟨v20, u21, hf⟩ := bdP hf
            refine cx_X9_57_X3_cost E hX hD hP hS hA (kxX3_cost l D G hD sgX9_hours_p8_raI1170 rfl sgX9_hours_p8_rpR2 sgX9_hours_p8_rpR5 sgX9_hours_p8_rpR6 sgX9_hours_p8_rgG0 u21) ⟨rfl, rfl⟩ ⟨Nat.le_of_ble_eq_true rfl, Nat.le_of_ble_eq_true rfl⟩ ⟨Nat.zero_le _, Nat.zero_le _⟩ hl.1 (Nat.le_of_ble_eq_true rfl) dX9_hours_147 (fun H locs hP hS => ?_)
            refine lv_iadd hx hb dX9_hours_150 ?_
            obtain ⟨v22, hv22, hf⟩ := bdP hf
            refine nm_i (Option.some.inj hv22) ?_
            refine lv_istore (lv' := [(4, .int v22), (7, .int y4), (6, .int v9), (0, .ref (ad 1512)), (1, .int x1), (2, .int y3), (3, .int y4), (5, .int y6)]) hx hb dX9_hours_151 hl (by decide) rfl (fun ls hl => ?_)
            refine lv_iload hx hb dX9_hours_153 (lv_at hl 2 rfl) ?_
            refine lv_istore_n (lv' := [(2, .int v9), (4, .int v22), (7, .int y4), (6, .int v9), (0, .ref (ad 1512)), (1, .int x1), (3, .int y4), (5, .int y6)]) hx hb dX9_hours_155 rfl hl (by decide) rfl (fun ls hl => ?_)
            refine lv_aload_n hx hb dX9_hours_156 rfl (lv_at hl 4 rfl) ?_
            refine gx_X9_3_1512 E hX hD hP dX9_hours_157 ?_
            refine lv_iload_n hx hb dX9_hours_160 rfl (lv_at hl 0 rfl) ?_
            refine lv_iload_n hx hb dX9_hours_161 rfl (lv_at hl 6 rfl) ?_
            refine lv_iload_n hx hb dX9_hours_162 rfl (lv_at hl 5 rfl) ?_
            obtain ⟨v23, u24, hf⟩ := bdP hf
            refine cx_X9_25_X1_seeing E hX hD hP hS hA (kxX1_seeing l D G hD sgX9_hours_p8_rzI2027 sgX9_hours_p8_raI1170 sgX9_hours_p8_raI2043 u24) ⟨rfl, rfl⟩ ⟨Nat.le_of_ble_eq_true rfl, Nat.le_of_ble_eq_true rfl⟩ ⟨Nat.zero_le _, Nat.zero_le _⟩ hl.1 (Nat.le_of_ble_eq_true rfl) dX9_hours_163 (fun H locs hP hS => ?_)
            refine lv_istore_n (lv' := [(3, .int v23), (2, .int v9), (4, .int v22), (7, .int y4), (6, .int v9), (0, .ref (ad 1512)), (1, .int x1), (5, .int y6)]) hx hb dX9_hours_166 rfl hl (by decide) rfl (fun ls hl => ?_)
            exact J167 v9 v23 v22 hf H locs hP hS ls (lv_sub hl [5, 6, 1, 0, 2, 7, 3] rfl)
          · have hf := ifF c19 hf
            refine lv_aload_n hx hb dX9_hours_77 rfl (lv_at hl 2 rfl) ?_
            refine gx_X9_3_1512 E hX hD hP dX9_hours_78 ?_
            refine gx_X9_15_1000 E hX hD hP dX9_hours_81 ?_
            refine gx_X9_36_2000 E hX hD hP dX9_hours_84 ?_
            refine lv_iload hx hb dX9_hours_87 (lv_at hl 1 rfl) ?_
            refine lv_bipush hx hb dX9_hours_89 bp_100 ?_
            refine lv_isub hx hb dX9_hours_91 ?_
            obtain ⟨v25, u26, hf⟩ := bdP hf
            refine cx_X9_40_J2_get_Lw E hX hD hP hS hA (kxJ2_get_Lw l D G hD sgX9_hours_p8_rzI2032 sgX9_hours_p8_raI2037 u26) ⟨rfl, rfl⟩ ⟨Nat.le_of_ble_eq_true rfl, Nat.le_of_ble_eq_true rfl⟩ ⟨Nat.zero_le _, Nat.zero_le _⟩ hl.1 (Nat.le_of_ble_eq_true rfl) dX9_hours_92 (fun H locs hP hS => ?_)
            obtain ⟨v27, hv27, hf⟩ := bdP hf
            refine p_castP (ci := 16) (q := (RX19, TX19, 3)) hx hb hX.1 hP hown (hts _ q1314) hv27 hD.2.2.1 rfl dX9_hours_95 ?_
            refine r_astore (lv' := [(8, va_rf (drf ad 8000 v27)), (7, .int y4), (6, .int v9), (0, .ref (ad 1512)), (1, .int x1), (2, .int y3), (3, .int y4), (4, .int y5), (5, .int y6)]) hx hb dX9_hours_98 hl (by decide) rfl (fun ls hl => ?_)
            refine lv_iload hx hb dX9_hours_100 (lv_at hl 7 rfl) ?_
            refine r_aload hx hb dX9_hours_102 (lv_at hl 0 rfl) ?_
            obtain ⟨v28, hv28, hf⟩ := bdP hf
            refine gp_X9_48_W E hX hD hP sgX9_hours_p8_rpW2 hv28 dX9_hours_104 ?_
            refine lv_iadd hx hb dX9_hours_107 ?_
            obtain ⟨v29, hv29, hf⟩ := bdP hf
            refine nm_i (Option.some.inj hv29) ?_
            refine lv_istore (lv' := [(4, .int v29), (8, va_rf (drf ad 8000 v27)), (7, .int y4), (6, .int v9), (0, .ref (ad 1512)), (1, .int x1), (2, .int y3), (3, .int y4), (5, .int y6)]) hx hb dX9_hours_108 hl (by decide) rfl (fun ls hl => ?_)
            refine lv_iload_n hx hb dX9_hours_110 rfl (lv_at hl 7 rfl) ?_
            refine r_aload hx hb dX9_hours_111 (lv_at hl 1 rfl) ?_
            obtain ⟨v30, hv30, hf⟩ := bdP hf
            refine gp_X9_51_W E hX hD hP sgX9_hours_p8_rpW1 hv30 dX9_hours_113 ?_
            refine lv_iconst hx hb dX9_hours_116 ic_1 ?_
            refine lv_iload_n hx hb dX9_hours_117 rfl (lv_at hl 5 rfl) ?_
            refine r_aload hx hb dX9_hours_118 (lv_at hl 1 rfl) ?_
            obtain ⟨v31, hv31, hf⟩ := bdP hf
            refine gp_X9_51_W E hX hD hP sgX9_hours_p8_rpW1 hv31 dX9_hours_120 ?_
            refine lv_ishr hx hb dX9_hours_123 ?_
            refine lv_iconst hx hb dX9_hours_124 ic_1 ?_
            refine lv_iand hx hb dX9_hours_125 ?_
            refine lv_iadd hx hb dX9_hours_126 ?_
            obtain ⟨v32, u33, hf⟩ := bdP hf
            refine cx_X9_54_X1_with E hX hD hP hS hA (kxX1_with l D G hD sgX9_hours_p8_raI1170 u33) ⟨rfl, rfl⟩ ⟨Nat.le_of_ble_eq_true rfl, Nat.le_of_ble_eq_true rfl⟩ ⟨Nat.zero_le _, Nat.zero_le _⟩ hl.1 (Nat.le_of_ble_eq_true rfl) dX9_hours_127 (fun H locs hP hS => ?_)
            refine lv_istore_n (lv' := [(3, .int v32), (4, .int v29), (8, va_rf (drf ad 8000 v27)), (7, .int y4), (6, .int v9), (0, .ref (ad 1512)), (1, .int x1), (2, .int y3), (5, .int y6)]) hx hb dX9_hours_130 rfl hl (by decide) rfl (fun ls hl => ?_)
            refine lv_goto (tgt := 167) hx hb dX9_hours_131 (by decide) ?_
            exact J167 y3 v32 v29 hf H locs hP hS ls (lv_sub hl [5, 6, 7, 0, 1, 8, 3] rfl)
        · have hf := ifF c13 hf
          exact KE28_0 _ (hx28 _ (Option.some.inj hf).symm).symm H locs hP hS ls (lv_sub hl [] rfl)
  obtain ⟨ex28, hlp28, hf⟩ := bdP hf
  refine LP28 ((σ.1 2012), v1, 0, 0, (σ.2.2.1 1161)) ex28 hlp28 H locs hP hS ls (lv_sub hl [4, 5, 3, 2, 1, 0] rfl) ?_ ?_
  · intro a34 hex28 H locs hP hS ls hl
    subst ex28
    dsimp only [sE_l, sE_r] at hf
    refine lv_bipush hx hb dX9_hours_64 bp_m2 ?_
    cases hf
    rw [hQ]; exact g_iret hx hb hr hlk hP hS dX9_hours_66
  · intro y35 a36 hex28 H locs hP hS ls hl
    subst ex28
    dsimp only [sE_l, sE_r] at hf
    refine lv_iload hx hb dX9_hours_186 (lv_at hl 0 rfl) ?_
    cases hf
    rw [hQ]; exact g_iret hx hb hr hlk hP hS dX9_hours_188
theorem kxX9_hours_p8 (l : Launch) (D : va_G) (G : Nat → ClassId) {dsc : Nat → Option Dsc} {ad : Nat → Nat} {σ : Sto} {nr nw nu : Nat} (hD : XD dsc nr nw nu) {x1 : Int32} {r_ : Int32} {w_aI1161 : Nat → Int32} {z_p8_many : Int32} (e_zI1517 : σ.1 1517 = z_p8_many) {z_L_places : Int32} (e_zI2008 : σ.1 2008 = z_L_places) {z_L_from : Int32} (e_zI2012 : σ.1 2012 = z_L_from) {z_L_to : Int32} (e_zI2013 : σ.1 2013 = z_L_to) {z_Ld_size : Int32} (e_zI2027 : σ.1 2027 = z_Ld_size) {z_Lw_size : Int32} (e_zI2032 : σ.1 2032 = z_Lw_size) {a_p8_far : Nat → Int32} (e_aI1161 : σ.2.2.1 1161 = a_p8_far) {a_p8_row : Nat → Int32} (e_aI1165 : σ.2.2.1 1165 = a_p8_row) {a_UNIT : Nat → Int32} (e_aI1170 : σ.2.2.1 1170 = a_UNIT) {a_Lw_data : Nat → Int32} (e_aI2037 : σ.2.2.1 2037 = a_Lw_data) {a_L_seen : Nat → Int32} (e_aI2043 : σ.2.2.1 2043 = a_L_seen) {n_r : Nat} (e_nN0 : nr = n_r) {n_w : Nat} (e_nN1 : nw = n_w) {p_road_hours : Nat → Int32} (e_pR2 : (fun k => σ.1 (6000 + 16 * k + 2)) = p_road_hours) {p_road_wait : Nat → Int32} (e_pR5 : (fun k => σ.1 (6000 + 16 * k + 5)) = p_road_wait) {p_road_number : Nat → Int32} (e_pR6 : (fun k => σ.1 (6000 + 16 * k + 6)) = p_road_number) {p_word_road : Nat → Int32} (e_pW1 : (fun k => σ.1 (8000 + 16 * k + 1)) = p_word_road) {p_word_hours : Nat → Int32} (e_pW2 : (fun k => σ.1 (8000 + 16 * k + 2)) = p_word_hours) {g_grid : Nat → Nat → Int32} (e_gG0 : (fun k => σ.2.2.1 (4000 + 16 * k)) = g_grid) (hf : xo_X9_hours_p5 z_p8_many z_L_places z_L_from z_L_to z_Ld_size z_Lw_size a_p8_far a_p8_row a_UNIT a_Lw_data a_L_seen n_r n_w p_road_hours p_road_wait p_road_number p_word_road p_word_hours g_grid x1 = some (r_, w_aI1161)) : CtG l D G dsc ad yX9_hours (ws_ yX9_hours cX9_hours 9 (Option.some Jvm.ClassFile.FieldType.int)) rmX9_hours_p8 [.ref (ad 1512), .int x1] σ (some (.int r_)) (aI σ 1161 w_aI1161) := by
  subst e_zI1517
  subst e_zI2008
  subst e_zI2012
  subst e_zI2013
  subst e_zI2027
  subst e_zI2032
  subst e_aI1161
  subst e_aI1165
  subst e_aI1170
  subst e_aI2037
  subst e_aI2043
  subst e_nN0
  subst e_nN1
  subst e_pR2
  subst e_pR5
  subst e_pR6
  subst e_pW1
  subst e_pW2
  subst e_gG0
  exact p_ctG (by decide +kernel) (Nat.le_of_ble_eq_true rfl) (fun p e s m below meth c0 ls A E hP hX hA hS hl => wkX9_hours_p8 E hX hD hA hf rfl hP hS hl)
theorem cx_X9_74_X9_hours_p8 {rm : Room} {σ1 : Sto} {x1 : Int32} {r : Int32} (E : EN p s m args meth c0 RX9 cc nL ret) (hX : KX D G ad A s s.heap) (hD : XD dsc nr nw nu) (hP : PIC D clsA G dsc ad σ H) (hS : va_S A s.heap H locs) (hA : ∀ q, PA dsc ad s.heap.size q → A q) (hM : CtG l D G dsc ad yX9_hours (ws_ yX9_hours cX9_hours 9 (Option.some Jvm.ClassFile.FieldType.int)) rm [.ref (ad 1512), .int x1] σ (some (.int r)) σ1) (hz : rm.cells = 0 ∧ rm.slots = 0) (hR : rm.frames + 1 ≤ R.frames ∧ 8 + (9 + 11) + rm.locals ≤ R.locals) (hcs : cells ≤ R.cells ∧ slots ≤ R.slots) (hsz : ls.size = nL) (hW : (rest.map fun v => v.category).sum ≤ 8) (hdg : decode cc pc = .ok (.invokevirtual 74, 3)) (kk : ∀ (H1 : Heap) (locs1 : List Loc), PIC D clsA G dsc ad σ1 H1 → va_S A s.heap H1 locs1 → W p l e R s m args below meth c0 H1 locs1 cells slots Q (F0 m (pc + 3) ls (.int r :: rest))) : W p l e R s m args below meth c0 H locs cells slots Q (F0 m pc ls (.int x1 :: .ref (ad 1512) :: rest)) :=
  p_gU (As := [.int x1]) (rest := rest) E.1 hX hP hS hA hM (cw_any (owner := "ShutPasses$Plan") (x := ⟨"ShutPasses$Plan", "hours", "(I)I"⟩) (y := yX9_hours) (C := "ShutPasses$Tries") (index := 74) (own := RX9) 1 E.1.2.2.2.2 (lw_meth q1283) rfl hz.1 hz.2 (E.1.2.2.2.2 _ q1275) (E.1.2.2.2.2 _ q1277) (va_Decl.of (E.1.2.2.2.2 _ q1276) (E.1.2.2.2.2 _ q1283)) (E.1.2.2.2.2 _ q1282) (E.1.2.2.2.2 _ q1276) (E.1.2.2.2.2 _ q135) (by decide +kernel) hR) (hD.1 _ _ dX_1512) rfl rfl rfl hsz rfl hW hdg hcs kk
/-! X9_mean_p8 ()J -/
def sgX9_mean_p8 (σ : Sto) (w0 : Nat → Int32) : Sto := aI σ 1161 w0
theorem sgX9_mean_p8_self (σ : Sto) : sgX9_mean_p8 σ (σ.2.2.1 1161) = σ := by
  unfold sgX9_mean_p8
  simp only [zI_self, zL_self, aI_self, aL_self]
theorem sgX9_mean_p8_aI1161 {σ : Sto} {w0 : Nat → Int32} {g : Nat → Int32} : aI (sgX9_mean_p8 σ w0) 1161 g = sgX9_mean_p8 σ g := aI_aI _ 1161 _ _
theorem sgX9_mean_p8_rzI1517 {σ : Sto} {w0 : Nat → Int32} : (sgX9_mean_p8 σ w0).1 1517 = σ.1 1517 := rfl
theorem sgX9_mean_p8_rzI2008 {σ : Sto} {w0 : Nat → Int32} : (sgX9_mean_p8 σ w0).1 2008 = σ.1 2008 := rfl
theorem sgX9_mean_p8_rzI2012 {σ : Sto} {w0 : Nat → Int32} : (sgX9_mean_p8 σ w0).1 2012 = σ.1 2012 := rfl
theorem sgX9_mean_p8_rzI2013 {σ : Sto} {w0 : Nat → Int32} : (sgX9_mean_p8 σ w0).1 2013 = σ.1 2013 := rfl
theorem sgX9_mean_p8_rzI2027 {σ : Sto} {w0 : Nat → Int32} : (sgX9_mean_p8 σ w0).1 2027 = σ.1 2027 := rfl
theorem sgX9_mean_p8_rzI2032 {σ : Sto} {w0 : Nat → Int32} : (sgX9_mean_p8 σ w0).1 2032 = σ.1 2032 := rfl
theorem sgX9_mean_p8_raI1161 {σ : Sto} {w0 : Nat → Int32} : (sgX9_mean_p8 σ w0).2.2.1 1161 = w0 := rfl
theorem sgX9_mean_p8_raI1165 {σ : Sto} {w0 : Nat → Int32} : (sgX9_mean_p8 σ w0).2.2.1 1165 = σ.2.2.1 1165 := rfl
theorem sgX9_mean_p8_raI1170 {σ : Sto} {w0 : Nat → Int32} : (sgX9_mean_p8 σ w0).2.2.1 1170 = σ.2.2.1 1170 := rfl
theorem sgX9_mean_p8_raI2037 {σ : Sto} {w0 : Nat → Int32} : (sgX9_mean_p8 σ w0).2.2.1 2037 = σ.2.2.1 2037 := rfl
theorem sgX9_mean_p8_raI2043 {σ : Sto} {w0 : Nat → Int32} : (sgX9_mean_p8 σ w0).2.2.1 2043 = σ.2.2.1 2043 := rfl
theorem sgX9_mean_p8_raL1140 {σ : Sto} {w0 : Nat → Int32} : (sgX9_mean_p8 σ w0).2.2.2.1 1140 = σ.2.2.2.1 1140 := rfl
theorem sgX9_mean_p8_rpR2 {σ : Sto} {w0 : Nat → Int32} : (fun k => (sgX9_mean_p8 σ w0).1 (6000 + 16 * k + 2)) = (fun k => σ.1 (6000 + 16 * k + 2)) := by
  funext k
  unfold sgX9_mean_p8
  dsimp only [zI, zL, aI, aL]
  repeat rw [if_neg (by omega)]
theorem sgX9_mean_p8_rpR5 {σ : Sto} {w0 : Nat → Int32} : (fun k => (sgX9_mean_p8 σ w0).1 (6000 + 16 * k + 5)) = (fun k => σ.1 (6000 + 16 * k + 5)) := by
  funext k
  unfold sgX9_mean_p8
  dsimp only [zI, zL, aI, aL]
  repeat rw [if_neg (by omega)]
theorem sgX9_mean_p8_rpR6 {σ : Sto} {w0 : Nat → Int32} : (fun k => (sgX9_mean_p8 σ w0).1 (6000 + 16 * k + 6)) = (fun k => σ.1 (6000 + 16 * k + 6)) := by
  funext k
  unfold sgX9_mean_p8
  dsimp only [zI, zL, aI, aL]
  repeat rw [if_neg (by omega)]
theorem sgX9_mean_p8_rpW1 {σ : Sto} {w0 : Nat → Int32} : (fun k => (sgX9_mean_p8 σ w0).1 (8000 + 16 * k + 1)) = (fun k => σ.1 (8000 + 16 * k + 1)) := by
  funext k
  unfold sgX9_mean_p8
  dsimp only [zI, zL, aI, aL]
  repeat rw [if_neg (by omega)]
theorem sgX9_mean_p8_rpW2 {σ : Sto} {w0 : Nat → Int32} : (fun k => (sgX9_mean_p8 σ w0).1 (8000 + 16 * k + 2)) = (fun k => σ.1 (8000 + 16 * k + 2)) := by
  funext k
  unfold sgX9_mean_p8
  dsimp only [zI, zL, aI, aL]
  repeat rw [if_neg (by omega)]
theorem sgX9_mean_p8_rgG0 {σ : Sto} {w0 : Nat → Int32} : (fun k => (sgX9_mean_p8 σ w0).2.2.1 (4000 + 16 * k)) = (fun k => σ.2.2.1 (4000 + 16 * k)) := by
  funext k
  unfold sgX9_mean_p8
  dsimp only [zI, zL, aI, aL]
  repeat rw [if_neg (by omega)]
abbrev rmX9_mean_p8 : Room := { frames := 5, cells := 0, slots := 0, locals := 124 }
set_option maxHeartbeats 4000000 in
theorem wkX9_mean_p8 {r_ : Int64} {w_aI1161 : Nat → Int32} (E : EN p s m args meth c0 RX9 cX9_mean 5 (Option.some Jvm.ClassFile.FieldType.long)) (hX : KX D G ad A s s.heap) (hD : XD dsc nr nw nu) (hA : ∀ q, PA dsc ad s.heap.size q → A q) (hf : xo_X9_mean_p5 (σ.1 1517) (σ.1 2008) (σ.1 2012) (σ.1 2013) (σ.1 2027) (σ.1 2032) (σ.2.2.1 1161) (σ.2.2.1 1165) (σ.2.2.1 1170) (σ.2.2.1 2037) (σ.2.2.1 2043) (σ.2.2.2.1 1140) nr nw (fun k => σ.1 (6000 + 16 * k + 2)) (fun k => σ.1 (6000 + 16 * k + 5)) (fun k => σ.1 (6000 + 16 * k + 6)) (fun k => σ.1 (8000 + 16 * k + 1)) (fun k => σ.1 (8000 + 16 * k + 2)) (fun k => σ.2.2.1 (4000 + 16 * k)) = some (r_, w_aI1161)) (hQ : Q = MQ below (va_G1 (some (.long r_)) (fun t => PIC D clsA G dsc ad (sgX9_mean_p8 σ w_aI1161) t.heap) A) args s 0 0 A) (hP : PIC D clsA G dsc ad σ H) (hS : va_S A s.heap H locs) (hl : lv_has ls 5 [(0, .ref (ad 1512))]) : W p l e rmX9_mean_p8 s m args below meth c0 H locs 0 0 Q (F0 m 0 ls []) := by
  obtain ⟨⟨hx, hb, hml, hown, hts⟩, hr, hlk⟩ := id E
  have hP := hP.to (sgX9_mean_p8_self σ).symm
  unfold xo_X9_mean_p5 at hf
  refine lv_lconst hx hb dX9_mean_0 lc_0 ?_
  refine lv_lstore_n (lv' := [(1, .long 0), (0, .ref (ad 1512))]) hx hb dX9_mean_1 rfl hl (by decide) rfl (fun ls hl => ?_)
  refine lv_iconst hx hb dX9_mean_2 ic_0 ?_
  refine lv_istore_n (lv' := [(3, .int 0), (1, .long 0), (0, .ref (ad 1512))]) hx hb dX9_mean_3 rfl hl (by decide) rfl (fun ls hl => ?_)
  have LP4 : ∀ (st4 : Int64 × Int32 × (Nat → Int32)) (ex4 : ((Nat → Int32)) ⊕ (Int64 × (Nat → Int32))), loop (xo_X9_mean_p5_L4 (σ.1 1517) (σ.1 2008) (σ.1 2012) (σ.1 2013) (σ.1 2027) (σ.1 2032) (σ.2.2.1 1165) (σ.2.2.1 1170) (σ.2.2.1 2037) (σ.2.2.1 2043) (σ.2.2.2.1 1140) nr nw (fun k => σ.1 (6000 + 16 * k + 2)) (fun k => σ.1 (6000 + 16 * k + 5)) (fun k => σ.1 (6000 + 16 * k + 6)) (fun k => σ.1 (8000 + 16 * k + 1)) (fun k => σ.1 (8000 + 16 * k + 2)) (fun k => σ.2.2.1 (4000 + 16 * k))) st4 = some ex4 → ∀ (H : Heap) (locs : List Loc), PIC D clsA G dsc ad (sgX9_mean_p8 σ (st4.2.2)) H → va_S A s.heap H locs → ∀ (ls : Array Slot), lv_has ls 5 [(0, .ref (ad 1512)), (1, .long (st4.1)), (3, .int (st4.2.1))] → (∀ (a18 : Nat → Int32), ex4 = (.inl a18) → ∀ (H : Heap) (locs : List Loc), PIC D clsA G dsc ad (sgX9_mean_p8 σ a18) H → va_S A s.heap H locs → ∀ (ls : Array Slot), lv_has ls 5 [] → W p l e rmX9_mean_p8 s m args below meth c0 H locs 0 0 Q (F0 m 52 ls [])) → (∀ (y19 : Int64) (a20 : Nat → Int32), ex4 = (.inr (y19, a20)) → ∀ (H : Heap) (locs : List Loc), PIC D clsA G dsc ad (sgX9_mean_p8 σ a20) H → va_S A s.heap H locs → ∀ (ls : Array Slot), lv_has ls 5 [(1, .long y19)] → W p l e rmX9_mean_p8 s m args below meth c0 H locs 0 0 Q (F0 m 81 ls [])) → W p l e rmX9_mean_p8 s m args below meth c0 H locs 0 0 Q (F0 m 4 ls []) := by
    refine loop_P (fun st4 ex4 o4 hf ih4 hx4 => ?_)
    obtain ⟨y1, y2, a3⟩ := st4
    intro H locs (hP : PIC D clsA G dsc ad (sgX9_mean_p8 σ a3) H) hS ls (hl : lv_has ls 5 [(0, .ref (ad 1512)), (1, .long y1), (3, .int y2)]) KE4_0 KE4_1
    dsimp only [xo_X9_mean_p5_L4] at hf
    refine lv_iload_n hx hb dX9_mean_4 rfl (lv_at hl 2 rfl) ?_
    refine lv_aload_n hx hb dX9_mean_5 rfl (lv_at hl 0 rfl) ?_
    refine gx_X9_3_1512 E hX hD hP dX9_mean_6 ?_
    refine gx_X9_15_1000 E hX hD hP dX9_mean_9 ?_
    obtain ⟨v4, u5, hf⟩ := bdP hf
    refine cx_X9_60_X3_worlds E hX hD hP hS hA (kxX3_worlds l D G hD sgX9_mean_p8_rzI2027 u5) ⟨rfl, rfl⟩ ⟨Nat.le_of_ble_eq_true rfl, Nat.le_of_ble_eq_true rfl⟩ ⟨Nat.zero_le _, Nat.zero_le _⟩ hl.1 (Nat.le_of_ble_eq_true rfl) dX9_mean_12 (fun H locs hP hS => ?_)
    refine lv_icmp_ge (tgt := 81) hx hb dX9_mean_15 (by decide) (fun c6 => ?_) (fun c6 => ?_)
    · have hf := ifT c6 hf
      exact KE4_1 _ _ (hx4 _ (Option.some.inj hf).symm).symm H locs hP hS ls (lv_sub hl [1] rfl)
    · have hf := ifF c6 hf
      refine lv_aload_n hx hb dX9_mean_18 rfl (lv_at hl 0 rfl) ?_
      refine gx_X9_3_1512 E hX hD hP dX9_mean_19 ?_
      refine gx_X9_64_1000 E hX hD hP dX9_mean_22 ?_
      refine gx_X9_68_1050 E hX hD hP dX9_mean_25 ?_
      refine lv_iload_n hx hb dX9_mean_28 rfl (lv_at hl 2 rfl) ?_
      obtain ⟨v7, hv7, hf⟩ := bdP hf
      refine p_lald hx hb hX.1 hP (hD.1 _ _ dX_1140) sgX9_mean_p8_raL1140 hv7 dX9_mean_29 ?_
      refine lv_lconst hx hb dX9_mean_30 lc_0 ?_
      refine W.lcmp hx hb dX9_mean_31 ?_
      have J75 : ∀ (y8 : Int64) (a9 : Nat → Int32), xo_X9_mean_p5_J75 y2 y8 a9 = some o4 → ∀ (H : Heap) (locs : List Loc), PIC D clsA G dsc ad (sgX9_mean_p8 σ a9) H → va_S A s.heap H locs → ∀ (ls : Array Slot), lv_has ls 5 [(0, .ref (ad 1512)), (1, .long y8), (3, .int y2)] → W p l e rmX9_mean_p8 s m args below meth c0 H locs 0 0 Q (F0 m 75 ls []) := by
        intro y8 a9 hf H locs hP hS ls hl
        unfold xo_X9_mean_p5_J75 at hf
        obtain ⟨v10, hv10, hf⟩ := bdP hf
        refine lv_iinc (v := v10) (lv' := [(3, .int v10), (0, .ref (ad 1512)), (1, .long y8)]) hx hb dX9_mean_75 hl (k := 2) rfl (Option.some.inj hv10) (by decide) rfl (fun ls hl => ?_)
        refine lv_goto (tgt := 4) hx hb dX9_mean_78 (by decide) ?_
        exact ih4 _ (Option.some.inj hf).symm H locs hP hS ls (lv_sub hl [1, 2, 0] rfl) KE4_0 KE4_1
      refine lv_if_ne (tgt := 38) hx hb dX9_mean_32 (by decide) (fun c11 => ?_) (fun c11 => ?_)
      · have hf := ifF (mt (lgc_eq _ _).mpr c11) hf
        refine lv_aload_n hx hb dX9_mean_38 rfl (lv_at hl 0 rfl) ?_
        refine lv_iload_n hx hb dX9_mean_39 rfl (lv_at hl 2 rfl) ?_
        obtain ⟨⟨v12, a13⟩, u14, hf⟩ := bdP hf
        dsimp only at hf
        refine cx_X9_74_X9_hours_p8 E hX hD hP hS hA (kxX9_hours_p8 l D G hD sgX9_mean_p8_rzI1517 sgX9_mean_p8_rzI2008 sgX9_mean_p8_rzI2012 sgX9_mean_p8_rzI2013 sgX9_mean_p8_rzI2027 sgX9_mean_p8_rzI2032 sgX9_mean_p8_raI1161 sgX9_mean_p8_raI1165 sgX9_mean_p8_raI1170 sgX9_mean_p8_raI2037 sgX9_mean_p8_raI2043 rfl rfl sgX9_mean_p8_rpR2 sgX9_mean_p8_rpR5 sgX9_mean_p8_rpR6 sgX9_mean_p8_rpW1 sgX9_mean_p8_rpW2 sgX9_mean_p8_rgG0 u14) ⟨rfl, rfl⟩ ⟨Nat.le_of_ble_eq_true rfl, Nat.le_of_ble_eq_true rfl⟩ ⟨Nat.zero_le _, Nat.zero_le _⟩ hl.1 (Nat.le_of_ble_eq_true rfl) dX9_mean_40 (fun H locs hP hS => ?_)
        rw [sgX9_mean_p8_aI1161] at hP
        refine lv_istore (lv' := [(4, .int v12), (0, .ref (ad 1512)), (1, .long y1), (3, .int y2)]) hx hb dX9_mean_43 hl (by decide) rfl (fun ls hl => ?_)
        refine lv_iload hx hb dX9_mean_45 (lv_at hl 0 rfl) ?_
        refine lv_bipush hx hb dX9_mean_47 bp_m2 ?_
        refine lv_icmp_ne (tgt := 56) hx hb dX9_mean_49 (by decide) (fun c15 => ?_) (fun c15 => ?_)
        · have hf := ifF c15 hf
          refine lv_lload_n hx hb dX9_mean_56 rfl (lv_at hl 2 rfl) ?_
          refine lv_aload_n hx hb dX9_mean_57 rfl (lv_at hl 1 rfl) ?_
          refine gx_X9_3_1512 E hX hD hP dX9_mean_58 ?_
          refine gx_X9_64_1000 E hX hD hP dX9_mean_61 ?_
          refine gx_X9_68_1050 E hX hD hP dX9_mean_64 ?_
          refine lv_iload_n hx hb dX9_mean_67 rfl (lv_at hl 3 rfl) ?_
          obtain ⟨v16, hv16, hf⟩ := bdP hf
          refine p_lald hx hb hX.1 hP (hD.1 _ _ dX_1140) sgX9_mean_p8_raL1140 hv16 dX9_mean_68 ?_
          refine lv_iload hx hb dX9_mean_69 (lv_at hl 0 rfl) ?_
          refine lv_i2l hx hb dX9_mean_71 rfl ?_
          refine lv_lmul hx hb dX9_mean_72 ?_
          refine lv_ladd hx hb dX9_mean_73 ?_
          obtain ⟨v17, hv17, hf⟩ := bdP hf
          refine nm_l (Option.some.inj hv17) ?_
          refine lv_lstore_n (lv' := [(1, .long v17), (4, .int v12), (0, .ref (ad 1512)), (3, .int y2)]) hx hb dX9_mean_74 rfl hl (by decide) rfl (fun ls hl => ?_)
          exact J75 v17 a13 hf H locs hP hS ls (lv_sub hl [2, 0, 3] rfl)
        · have hf := ifT c15 hf
          exact KE4_0 _ (hx4 _ (Option.some.inj hf).symm).symm H locs hP hS ls (lv_sub hl [] rfl)
      · have hf := ifT ((lgc_eq _ _).mp c11) hf
        refine lv_goto (tgt := 75) hx hb dX9_mean_35 (by decide) ?_
        exact J75 y1 a3 hf H locs hP hS ls (lv_sub hl [0, 1, 2] rfl)
  obtain ⟨ex4, hlp4, hf⟩ := bdP hf
  refine LP4 (0, 0, (σ.2.2.1 1161)) ex4 hlp4 H locs hP hS ls (lv_sub hl [2, 1, 0] rfl) ?_ ?_
  · intro a18 hex4 H locs hP hS ls hl
    subst ex4
    dsimp only [sE_l, sE_r] at hf
    refine lv_ldc2 hx hb hown (hts _ q1345) dX9_mean_52 ?_
    cases hf
    rw [hQ]; exact g_lret hx hb hr hlk hP hS dX9_mean_55
  · intro y19 a20 hex4 H locs hP hS ls hl
    subst ex4
    dsimp only [sE_l, sE_r] at hf
    refine lv_lload_n hx hb dX9_mean_81 rfl (lv_at hl 0 rfl) ?_
    cases hf
    rw [hQ]; exact g_lret hx hb hr hlk hP hS dX9_mean_82
theorem kxX9_mean_p8 (l : Launch) (D : va_G) (G : Nat → ClassId) {dsc : Nat → Option Dsc} {ad : Nat → Nat} {σ : Sto} {nr nw nu : Nat} (hD : XD dsc nr nw nu) {r_ : Int64} {w_aI1161 : Nat → Int32} {z_p8_many : Int32} (e_zI1517 : σ.1 1517 = z_p8_many) {z_L_places : Int32} (e_zI2008 : σ.1 2008 = z_L_places) {z_L_from : Int32} (e_zI2012 : σ.1 2012 = z_L_from) {z_L_to : Int32} (e_zI2013 : σ.1 2013 = z_L_to) {z_Ld_size : Int32} (e_zI2027 : σ.1 2027 = z_Ld_size) {z_Lw_size : Int32} (e_zI2032 : σ.1 2032 = z_Lw_size) {a_p8_far : Nat → Int32} (e_aI1161 : σ.2.2.1 1161 = a_p8_far) {a_p8_row : Nat → Int32} (e_aI1165 : σ.2.2.1 1165 = a_p8_row) {a_UNIT : Nat → Int32} (e_aI1170 : σ.2.2.1 1170 = a_UNIT) {a_Lw_data : Nat → Int32} (e_aI2037 : σ.2.2.1 2037 = a_Lw_data) {a_L_seen : Nat → Int32} (e_aI2043 : σ.2.2.1 2043 = a_L_seen) {a_W_world : Nat → Int64} (e_aL1140 : σ.2.2.2.1 1140 = a_W_world) {n_r : Nat} (e_nN0 : nr = n_r) {n_w : Nat} (e_nN1 : nw = n_w) {p_road_hours : Nat → Int32} (e_pR2 : (fun k => σ.1 (6000 + 16 * k + 2)) = p_road_hours) {p_road_wait : Nat → Int32} (e_pR5 : (fun k => σ.1 (6000 + 16 * k + 5)) = p_road_wait) {p_road_number : Nat → Int32} (e_pR6 : (fun k => σ.1 (6000 + 16 * k + 6)) = p_road_number) {p_word_road : Nat → Int32} (e_pW1 : (fun k => σ.1 (8000 + 16 * k + 1)) = p_word_road) {p_word_hours : Nat → Int32} (e_pW2 : (fun k => σ.1 (8000 + 16 * k + 2)) = p_word_hours) {g_grid : Nat → Nat → Int32} (e_gG0 : (fun k => σ.2.2.1 (4000 + 16 * k)) = g_grid) (hf : xo_X9_mean_p5 z_p8_many z_L_places z_L_from z_L_to z_Ld_size z_Lw_size a_p8_far a_p8_row a_UNIT a_Lw_data a_L_seen a_W_world n_r n_w p_road_hours p_road_wait p_road_number p_word_road p_word_hours g_grid = some (r_, w_aI1161)) : CtG l D G dsc ad yX9_mean (ws_ yX9_mean cX9_mean 5 (Option.some Jvm.ClassFile.FieldType.long)) rmX9_mean_p8 [.ref (ad 1512)] σ (some (.long r_)) (aI σ 1161 w_aI1161) := by
  subst e_zI1517
  subst e_zI2008
  subst e_zI2012
  subst e_zI2013
  subst e_zI2027
  subst e_zI2032
  subst e_aI1161
  subst e_aI1165
  subst e_aI1170
  subst e_aI2037
  subst e_aI2043
  subst e_aL1140
  subst e_nN0
  subst e_nN1
  subst e_pR2
  subst e_pR5
  subst e_pR6
  subst e_pW1
  subst e_pW2
  subst e_gG0
  exact p_ctG (by decide +kernel) (Nat.le_of_ble_eq_true rfl) (fun p e s m below meth c0 ls A E hP hX hA hS hl => wkX9_mean_p8 E hX hD hA hf rfl hP hS hl)
theorem gx_X1_81_1000 (E : EN p s m args meth c0 RX1 cc nL ret) (hX : KX D G ad A s s.heap) (hD : XD dsc nr nw nu) (hP : PIC D clsA G dsc ad σ H) (hdg : decode cc pc = .ok (.getfield 81, 3)) (kk : W p l e R s m args below meth c0 H locs cells slots Q (F0 m (pc + 3) ls (.ref (ad 1512) :: rest))) : W p l e R s m args below meth c0 H locs cells slots Q (F0 m pc ls (.ref (ad 1000) :: rest)) :=
  p_get E.1.1 E.1.2.1 E.1.2.2.2.2 in_X1 E.1.2.2.2.1 hX.1 hP (hD.1 _ _ dX_1000) rfl 14 (by decide) (E.1.2.2.2.2 _ q525) (fun _ h => h) rfl rfl hdg kk
theorem ux_X1_165_1512 {v : Int32} {σ1 : Sto} (E : EN p s m args meth c0 RX1 cc nL ret) (hX : KX D G ad A s s.heap) (hD : XD dsc nr nw nu) (hP : PIC D clsA G dsc ad σ H) (hS : va_S A s.heap H locs) (hA : A (ad 1512)) (hσ : zI σ 1517 v = σ1) (hdg : decode cc pc = .ok (.putfield 165, 3)) (kk : ∀ (H1 : Heap) (locs1 : List Loc), PIC D clsA G dsc ad σ1 H1 → va_S A s.heap H1 locs1 → W p l e R s m args below meth c0 H1 locs1 cells slots Q (F0 m (pc + 3) ls rest)) : W p l e R s m args below meth c0 H locs cells slots Q (F0 m pc ls (.int v :: .ref (ad 1512) :: rest)) :=
  p_puti2N E.1.1 E.1.2.1 E.1.2.2.2.2 in_X12 tyX12 tyX12_ok E.1.2.2.2.1 hX.1 hP hS hA (hD.1 _ _ dX_1512) rfl 5 (by decide) (by decide +kernel) (hX.2.1.1 _ q430 rfl) (fun _ h => h) rfl rfl rfl rfl rfl hσ hdg kk
theorem cx_X1_361_X9_mean_p8 {rm : Room} {σ1 : Sto} {r : Int64} (E : EN p s m args meth c0 RX1 cc nL ret) (hX : KX D G ad A s s.heap) (hD : XD dsc nr nw nu) (hP : PIC D clsA G dsc ad σ H) (hS : va_S A s.heap H locs) (hA : ∀ q, PA dsc ad s.heap.size q → A q) (hM : CtG l D G dsc ad yX9_mean (ws_ yX9_mean cX9_mean 5 (Option.some Jvm.ClassFile.FieldType.long)) rm [.ref (ad 1512)] σ (some (.long r)) σ1) (hz : rm.cells = 0 ∧ rm.slots = 0) (hR : rm.frames + 1 ≤ R.frames ∧ 8 + (5 + 11) + rm.locals ≤ R.locals) (hcs : cells ≤ R.cells ∧ slots ≤ R.slots) (hsz : ls.size = nL) (hW : (rest.map fun v => v.category).sum ≤ 8) (hdg : decode cc pc = .ok (.invokevirtual 361, 3)) (kk : ∀ (H1 : Heap) (locs1 : List Loc), PIC D clsA G dsc ad σ1 H1 → va_S A s.heap H1 locs1 → W p l e R s m args below meth c0 H1 locs1 cells slots Q (F0 m (pc + 3) ls (.long r :: rest))) : W p l e R s m args below meth c0 H locs cells slots Q (F0 m pc ls (.ref (ad 1512) :: rest)) :=
  p_gU (As := []) (rest := rest) E.1 hX hP hS hA hM (cw_any (owner := "ShutPasses$Plan") (x := ⟨"ShutPasses$Tries", "mean", "()J"⟩) (y := yX9_mean) (C := "ShutPasses$Tries") (index := 361) (own := RX1) 0 E.1.2.2.2.2 (lw_meth q1344) rfl hz.1 hz.2 (E.1.2.2.2.2 _ q1401) (E.1.2.2.2.2 _ q1402) (va_Decl.of (E.1.2.2.2.2 _ q1337) (E.1.2.2.2.2 _ q1344)) (E.1.2.2.2.2 _ q1404) (E.1.2.2.2.2 _ q1337) (E.1.2.2.2.2 _ q135) (by decide +kernel) hR) (hD.1 _ _ dX_1512) rfl rfl rfl hsz rfl hW hdg hcs kk
theorem gx_X1_178_1000 {v : Int32} (E : EN p s m args meth c0 RX1 cc nL ret) (hX : KX D G ad A s s.heap) (hD : XD dsc nr nw nu) (hP : PIC D clsA G dsc ad σ H) (hv : σ.1 1021 = v) (hdg : decode cc pc = .ok (.getfield 178, 3)) (kk : W p l e R s m args below meth c0 H locs cells slots Q (F0 m (pc + 3) ls (.int v :: rest))) : W p l e R s m args below meth c0 H locs cells slots Q (F0 m pc ls (.ref (ad 1000) :: rest)) :=
  p_get E.1.1 E.1.2.1 E.1.2.2.2.2 in_X1 E.1.2.2.2.1 hX.1 hP (hD.1 _ _ dX_1000) rfl 21 (by decide) (E.1.2.2.2.2 _ q533) (fun _ h => h) rfl (congrArg Value.int hv) hdg kk
theorem ux_X1_178_1000 {v : Int32} {σ1 : Sto} (E : EN p s m args meth c0 RX1 cc nL ret) (hX : KX D G ad A s s.heap) (hD : XD dsc nr nw nu) (hP : PIC D clsA G dsc ad σ H) (hS : va_S A s.heap H locs) (hA : A (ad 1000)) (hz : narrow .boolean (.int v) = .int v) (hz2 : fits .boolean (.int v) = true) (hσ : zI σ 1021 v = σ1) (hdg : decode cc pc = .ok (.putfield 178, 3)) (kk : ∀ (H1 : Heap) (locs1 : List Loc), PIC D clsA G dsc ad σ1 H1 → va_S A s.heap H1 locs1 → W p l e R s m args below meth c0 H1 locs1 cells slots Q (F0 m (pc + 3) ls rest)) : W p l e R s m args below meth c0 H locs cells slots Q (F0 m pc ls (.int v :: .ref (ad 1000) :: rest)) :=
  p_puti2 E.1.1 E.1.2.1 E.1.2.2.2.2 in_X1 tyX1 tyX1_ok E.1.2.2.2.1 hX.1 hP hS hA (hD.1 _ _ dX_1000) rfl 21 (by decide) (by decide +kernel) (E.1.2.2.2.2 _ q533) (fun _ h => h) rfl rfl hz hz2 rfl hσ hdg kk
theorem ux_X1_362_1000 {v : Int64} {σ1 : Sto} (E : EN p s m args meth c0 RX1 cc nL ret) (hX : KX D G ad A s s.heap) (hD : XD dsc nr nw nu) (hP : PIC D clsA G dsc ad σ H) (hS : va_S A s.heap H locs) (hA : A (ad 1000)) (hσ : zL σ 1024 v = σ1) (hdg : decode cc pc = .ok (.putfield 362, 3)) (kk : ∀ (H1 : Heap) (locs1 : List Loc), PIC D clsA G dsc ad σ1 H1 → va_S A s.heap H1 locs1 → W p l e R s m args below meth c0 H1 locs1 cells slots Q (F0 m (pc + 3) ls rest)) : W p l e R s m args below meth c0 H locs cells slots Q (F0 m pc ls (.long v :: .ref (ad 1000) :: rest)) :=
  p_putl2 E.1.1 E.1.2.1 E.1.2.2.2.2 in_X1 tyX1 tyX1_ok E.1.2.2.2.1 hX.1 hP hS hA (hD.1 _ _ dX_1000) rfl 24 (by decide) (by decide +kernel) (E.1.2.2.2.2 _ q536) (fun _ h => h) rfl rfl rfl hσ hdg kk
theorem gx_X1_117_1000 (E : EN p s m args meth c0 RX1 cc nL ret) (hX : KX D G ad A s s.heap) (hD : XD dsc nr nw nu) (hP : PIC D clsA G dsc ad σ H) (hdg : decode cc pc = .ok (.getfield 117, 3)) (kk : W p l e R s m args below meth c0 H locs cells slots Q (F0 m (pc + 3) ls (.ref (ad 1123) :: rest))) : W p l e R s m args below meth c0 H locs cells slots Q (F0 m pc ls (.ref (ad 1000) :: rest)) :=
  p_get E.1.1 E.1.2.1 E.1.2.2.2.2 in_X1 E.1.2.2.2.1 hX.1 hP (hD.1 _ _ dX_1000) rfl 23 (by decide) (E.1.2.2.2.2 _ q535) (fun _ h => h) rfl rfl hdg kk
theorem gx_X1_354_1512 (E : EN p s m args meth c0 RX1 cc nL ret) (hX : KX D G ad A s s.heap) (hD : XD dsc nr nw nu) (hP : PIC D clsA G dsc ad σ H) (hdg : decode cc pc = .ok (.getfield 354, 3)) (kk : W p l e R s m args below meth c0 H locs cells slots Q (F0 m (pc + 3) ls (.ref (ad 1165) :: rest))) : W p l e R s m args below meth c0 H locs cells slots Q (F0 m pc ls (.ref (ad 1512) :: rest)) :=
  p_getN E.1.1 E.1.2.1 E.1.2.2.2.2 in_X12 E.1.2.2.2.1 hX.1 hP (hD.1 _ _ dX_1512) rfl 4 (by decide) (hX.2.1.1 _ q428 rfl) (fun _ h => h) rfl rfl hdg kk
theorem gx_X1_362_1000 {v : Int64} (E : EN p s m args meth c0 RX1 cc nL ret) (hX : KX D G ad A s s.heap) (hD : XD dsc nr nw nu) (hP : PIC D clsA G dsc ad σ H) (hv : σ.2.1 1024 = v) (hdg : decode cc pc = .ok (.getfield 362, 3)) (kk : W p l e R s m args below meth c0 H locs cells slots Q (F0 m (pc + 3) ls (.long v :: rest))) : W p l e R s m args below meth c0 H locs cells slots Q (F0 m pc ls (.ref (ad 1000) :: rest)) :=
  p_get E.1.1 E.1.2.1 E.1.2.2.2.2 in_X1 E.1.2.2.2.1 hX.1 hP (hD.1 _ _ dX_1000) rfl 24 (by decide) (E.1.2.2.2.2 _ q536) (fun _ h => h) rfl (congrArg Value.long hv) hdg kk
theorem cx_X1_357_X1_rows_2 {rm : Room} {σ1 : Sto} {x1 : Int32} {x2 : Int32} (E : EN p s m args meth c0 RX1 cc nL ret) (hX : KX D G ad A s s.heap) (hD : XD dsc nr nw nu) (hP : PIC D clsA G dsc ad σ H) (hS : va_S A s.heap H locs) (hA : ∀ q, PA dsc ad s.heap.size q → A q) (hM : CtG l D G dsc ad yX1_rows_2 (ws_ yX1_rows_2 cX1_rows_2 7 (Option.none : Option Jvm.ClassFile.FieldType)) rm [.ref (ad 1000), .int x1, .int x2] σ none σ1) (hz : rm.cells = 0 ∧ rm.slots = 0) (hR : rm.frames + 1 ≤ R.frames ∧ 8 + (7 + 11) + rm.locals ≤ R.locals) (hcs : cells ≤ R.cells ∧ slots ≤ R.slots) (hsz : ls.size = nL) (hW : (rest.map fun v => v.category).sum ≤ 8) (hdg : decode cc pc = .ok (.invokevirtual 357, 3)) (kk : ∀ (H1 : Heap) (locs1 : List Loc), PIC D clsA G dsc ad σ1 H1 → va_S A s.heap H1 locs1 → W p l e R s m args below meth c0 H1 locs1 cells slots Q (F0 m (pc + 3) ls (rest))) : W p l e R s m args below meth c0 H locs cells slots Q (F0 m pc ls (.int x2 :: .int x1 :: .ref (ad 1000) :: rest)) :=
  p_gV (As := [.int x1, .int x2]) (rest := rest) E.1 hX hP hS hA hM (cwV 2 E.1.2.2.2.2 (lw_V q1397 q1399 qs34 q124 q1400) rfl hz.1 hz.2 (by decide +kernel) hR) (hD.1 _ _ dX_1000) rfl rfl rfl hsz rfl hW hdg hcs kk
abbrev rmG_R (d : Nat) : Room := { frames := 6 + d, cells := 0, slots := 0, locals := 148 + d * 26 }
/-! X1_rows_2 (II)V -/
def sgX1_rows_2 (σ : Sto) (w0 : Int32) (w1 : Int32) (w2 : Int64) (w3 : Nat → Int32) (w4 : Nat → Int32) (w5 : Nat → Int32) : Sto := aI (aI (aI (zL (zI (zI σ 1021 w0) 1517 w1) 1024 w2) 1123 w3) 1161 w4) 1165 w5
theorem sgX1_rows_2_self (σ : Sto) : sgX1_rows_2 σ (σ.1 1021) (σ.1 1517) (σ.2.1 1024) (σ.2.2.1 1123) (σ.2.2.1 1161) (σ.2.2.1 1165) = σ := by
  unfold sgX1_rows_2
  simp only [zI_self, zL_self, aI_self, aL_self]
theorem sgX1_rows_2_zI1021 {σ : Sto} {w0 : Int32} {w1 : Int32} {w2 : Int64} {w3 : Nat → Int32} {w4 : Nat → Int32} {w5 : Nat → Int32} {g : Int32} : zI (sgX1_rows_2 σ w0 w1 w2 w3 w4 w5) 1021 g = sgX1_rows_2 σ g w1 w2 w3 w4 w5 := (cm_zI_aI _ _ _ _ _).trans (congrArg (fun z => aI z 1165 w5) ((cm_zI_aI _ _ _ _ _).trans (congrArg (fun z => aI z 1161 w4) ((cm_zI_aI _ _ _ _ _).trans (congrArg (fun z => aI z 1123 w3) ((cm_zI_zL _ _ _ _ _).trans (congrArg (fun z => zL z 1024 w2) ((zI_comm _ (by decide) _ _).trans (congrArg (fun z => zI z 1517 w1) (zI_zI _ 1021 _ _))))))))))
theorem sgX1_rows_2_zI1517 {σ : Sto} {w0 : Int32} {w1 : Int32} {w2 : Int64} {w3 : Nat → Int32} {w4 : Nat → Int32} {w5 : Nat → Int32} {g : Int32} : zI (sgX1_rows_2 σ w0 w1 w2 w3 w4 w5) 1517 g = sgX1_rows_2 σ w0 g w2 w3 w4 w5 := (cm_zI_aI _ _ _ _ _).trans (congrArg (fun z => aI z 1165 w5) ((cm_zI_aI _ _ _ _ _).trans (congrArg (fun z => aI z 1161 w4) ((cm_zI_aI _ _ _ _ _).trans (congrArg (fun z => aI z 1123 w3) ((cm_zI_zL _ _ _ _ _).trans (congrArg (fun z => zL z 1024 w2) (zI_zI _ 1517 _ _))))))))
theorem sgX1_rows_2_zL1024 {σ : Sto} {w0 : Int32} {w1 : Int32} {w2 : Int64} {w3 : Nat → Int32} {w4 : Nat → Int32} {w5 : Nat → Int32} {g : Int64} : zL (sgX1_rows_2 σ w0 w1 w2 w3 w4 w5) 1024 g = sgX1_rows_2 σ w0 w1 g w3 w4 w5 := (cm_zL_aI _ _ _ _ _).trans (congrArg (fun z => aI z 1165 w5) ((cm_zL_aI _ _ _ _ _).trans (congrArg (fun z => aI z 1161 w4) ((cm_zL_aI _ _ _ _ _).trans (congrArg (fun z => aI z 1123 w3) (zL_zL _ 1024 _ _))))))
theorem sgX1_rows_2_aI1123 {σ : Sto} {w0 : Int32} {w1 : Int32} {w2 : Int64} {w3 : Nat → Int32} {w4 : Nat → Int32} {w5 : Nat → Int32} {g : Nat → Int32} : aI (sgX1_rows_2 σ w0 w1 w2 w3 w4 w5) 1123 g = sgX1_rows_2 σ w0 w1 w2 g w4 w5 := (aI_comm _ (by decide) _ _).trans (congrArg (fun z => aI z 1165 w5) ((aI_comm _ (by decide) _ _).trans (congrArg (fun z => aI z 1161 w4) (aI_aI _ 1123 _ _))))
theorem sgX1_rows_2_aI1161 {σ : Sto} {w0 : Int32} {w1 : Int32} {w2 : Int64} {w3 : Nat → Int32} {w4 : Nat → Int32} {w5 : Nat → Int32} {g : Nat → Int32} : aI (sgX1_rows_2 σ w0 w1 w2 w3 w4 w5) 1161 g = sgX1_rows_2 σ w0 w1 w2 w3 g w5 := (aI_comm _ (by decide) _ _).trans (congrArg (fun z => aI z 1165 w5) (aI_aI _ 1161 _ _))
theorem sgX1_rows_2_aI1165 {σ : Sto} {w0 : Int32} {w1 : Int32} {w2 : Int64} {w3 : Nat → Int32} {w4 : Nat → Int32} {w5 : Nat → Int32} {g : Nat → Int32} : aI (sgX1_rows_2 σ w0 w1 w2 w3 w4 w5) 1165 g = sgX1_rows_2 σ w0 w1 w2 w3 w4 g := aI_aI _ 1165 _ _
theorem sgX1_rows_2_rzI1021 {σ : Sto} {w0 : Int32} {w1 : Int32} {w2 : Int64} {w3 : Nat → Int32} {w4 : Nat → Int32} {w5 : Nat → Int32} : (sgX1_rows_2 σ w0 w1 w2 w3 w4 w5).1 1021 = w0 := rfl
theorem sgX1_rows_2_rzI1517 {σ : Sto} {w0 : Int32} {w1 : Int32} {w2 : Int64} {w3 : Nat → Int32} {w4 : Nat → Int32} {w5 : Nat → Int32} : (sgX1_rows_2 σ w0 w1 w2 w3 w4 w5).1 1517 = w1 := rfl
theorem sgX1_rows_2_rzI2008 {σ : Sto} {w0 : Int32} {w1 : Int32} {w2 : Int64} {w3 : Nat → Int32} {w4 : Nat → Int32} {w5 : Nat → Int32} : (sgX1_rows_2 σ w0 w1 w2 w3 w4 w5).1 2008 = σ.1 2008 := rfl
theorem sgX1_rows_2_rzI2012 {σ : Sto} {w0 : Int32} {w1 : Int32} {w2 : Int64} {w3 : Nat → Int32} {w4 : Nat → Int32} {w5 : Nat → Int32} : (sgX1_rows_2 σ w0 w1 w2 w3 w4 w5).1 2012 = σ.1 2012 := rfl
theorem sgX1_rows_2_rzI2013 {σ : Sto} {w0 : Int32} {w1 : Int32} {w2 : Int64} {w3 : Nat → Int32} {w4 : Nat → Int32} {w5 : Nat → Int32} : (sgX1_rows_2 σ w0 w1 w2 w3 w4 w5).1 2013 = σ.1 2013 := rfl
theorem sgX1_rows_2_rzI2027 {σ : Sto} {w0 : Int32} {w1 : Int32} {w2 : Int64} {w3 : Nat → Int32} {w4 : Nat → Int32} {w5 : Nat → Int32} : (sgX1_rows_2 σ w0 w1 w2 w3 w4 w5).1 2027 = σ.1 2027 := rfl
theorem sgX1_rows_2_rzI2032 {σ : Sto} {w0 : Int32} {w1 : Int32} {w2 : Int64} {w3 : Nat → Int32} {w4 : Nat → Int32} {w5 : Nat → Int32} : (sgX1_rows_2 σ w0 w1 w2 w3 w4 w5).1 2032 = σ.1 2032 := rfl
theorem sgX1_rows_2_rzL1024 {σ : Sto} {w0 : Int32} {w1 : Int32} {w2 : Int64} {w3 : Nat → Int32} {w4 : Nat → Int32} {w5 : Nat → Int32} : (sgX1_rows_2 σ w0 w1 w2 w3 w4 w5).2.1 1024 = w2 := rfl
theorem sgX1_rows_2_raI1123 {σ : Sto} {w0 : Int32} {w1 : Int32} {w2 : Int64} {w3 : Nat → Int32} {w4 : Nat → Int32} {w5 : Nat → Int32} : (sgX1_rows_2 σ w0 w1 w2 w3 w4 w5).2.2.1 1123 = w3 := rfl
theorem sgX1_rows_2_raI1161 {σ : Sto} {w0 : Int32} {w1 : Int32} {w2 : Int64} {w3 : Nat → Int32} {w4 : Nat → Int32} {w5 : Nat → Int32} : (sgX1_rows_2 σ w0 w1 w2 w3 w4 w5).2.2.1 1161 = w4 := rfl
theorem sgX1_rows_2_raI1165 {σ : Sto} {w0 : Int32} {w1 : Int32} {w2 : Int64} {w3 : Nat → Int32} {w4 : Nat → Int32} {w5 : Nat → Int32} : (sgX1_rows_2 σ w0 w1 w2 w3 w4 w5).2.2.1 1165 = w5 := rfl
theorem sgX1_rows_2_raI1170 {σ : Sto} {w0 : Int32} {w1 : Int32} {w2 : Int64} {w3 : Nat → Int32} {w4 : Nat → Int32} {w5 : Nat → Int32} : (sgX1_rows_2 σ w0 w1 w2 w3 w4 w5).2.2.1 1170 = σ.2.2.1 1170 := rfl
theorem sgX1_rows_2_raI2037 {σ : Sto} {w0 : Int32} {w1 : Int32} {w2 : Int64} {w3 : Nat → Int32} {w4 : Nat → Int32} {w5 : Nat → Int32} : (sgX1_rows_2 σ w0 w1 w2 w3 w4 w5).2.2.1 2037 = σ.2.2.1 2037 := rfl
theorem sgX1_rows_2_raI2043 {σ : Sto} {w0 : Int32} {w1 : Int32} {w2 : Int64} {w3 : Nat → Int32} {w4 : Nat → Int32} {w5 : Nat → Int32} : (sgX1_rows_2 σ w0 w1 w2 w3 w4 w5).2.2.1 2043 = σ.2.2.1 2043 := rfl
theorem sgX1_rows_2_raL1140 {σ : Sto} {w0 : Int32} {w1 : Int32} {w2 : Int64} {w3 : Nat → Int32} {w4 : Nat → Int32} {w5 : Nat → Int32} : (sgX1_rows_2 σ w0 w1 w2 w3 w4 w5).2.2.2.1 1140 = σ.2.2.2.1 1140 := rfl
theorem sgX1_rows_2_rpR2 {σ : Sto} {w0 : Int32} {w1 : Int32} {w2 : Int64} {w3 : Nat → Int32} {w4 : Nat → Int32} {w5 : Nat → Int32} : (fun k => (sgX1_rows_2 σ w0 w1 w2 w3 w4 w5).1 (6000 + 16 * k + 2)) = (fun k => σ.1 (6000 + 16 * k + 2)) := by
  funext k
  unfold sgX1_rows_2
  dsimp only [zI, zL, aI, aL]
  repeat rw [if_neg (by omega)]
theorem sgX1_rows_2_rpR5 {σ : Sto} {w0 : Int32} {w1 : Int32} {w2 : Int64} {w3 : Nat → Int32} {w4 : Nat → Int32} {w5 : Nat → Int32} : (fun k => (sgX1_rows_2 σ w0 w1 w2 w3 w4 w5).1 (6000 + 16 * k + 5)) = (fun k => σ.1 (6000 + 16 * k + 5)) := by
  funext k
  unfold sgX1_rows_2
  dsimp only [zI, zL, aI, aL]
  repeat rw [if_neg (by omega)]
theorem sgX1_rows_2_rpR6 {σ : Sto} {w0 : Int32} {w1 : Int32} {w2 : Int64} {w3 : Nat → Int32} {w4 : Nat → Int32} {w5 : Nat → Int32} : (fun k => (sgX1_rows_2 σ w0 w1 w2 w3 w4 w5).1 (6000 + 16 * k + 6)) = (fun k => σ.1 (6000 + 16 * k + 6)) := by
  funext k
  unfold sgX1_rows_2
  dsimp only [zI, zL, aI, aL]
  repeat rw [if_neg (by omega)]
theorem sgX1_rows_2_rpW1 {σ : Sto} {w0 : Int32} {w1 : Int32} {w2 : Int64} {w3 : Nat → Int32} {w4 : Nat → Int32} {w5 : Nat → Int32} : (fun k => (sgX1_rows_2 σ w0 w1 w2 w3 w4 w5).1 (8000 + 16 * k + 1)) = (fun k => σ.1 (8000 + 16 * k + 1)) := by
  funext k
  unfold sgX1_rows_2
  dsimp only [zI, zL, aI, aL]
  repeat rw [if_neg (by omega)]
theorem sgX1_rows_2_rpW2 {σ : Sto} {w0 : Int32} {w1 : Int32} {w2 : Int64} {w3 : Nat → Int32} {w4 : Nat → Int32} {w5 : Nat → Int32} : (fun k => (sgX1_rows_2 σ w0 w1 w2 w3 w4 w5).1 (8000 + 16 * k + 2)) = (fun k => σ.1 (8000 + 16 * k + 2)) := by
  funext k
  unfold sgX1_rows_2
  dsimp only [zI, zL, aI, aL]
  repeat rw [if_neg (by omega)]
theorem sgX1_rows_2_rgG0 {σ : Sto} {w0 : Int32} {w1 : Int32} {w2 : Int64} {w3 : Nat → Int32} {w4 : Nat → Int32} {w5 : Nat → Int32} : (fun k => (sgX1_rows_2 σ w0 w1 w2 w3 w4 w5).2.2.1 (4000 + 16 * k)) = (fun k => σ.2.2.1 (4000 + 16 * k)) := by
  funext k
  unfold sgX1_rows_2
  dsimp only [zI, zL, aI, aL]
  repeat rw [if_neg (by omega)]
abbrev rmX1_rows_2 : Room := rmG_R 10
set_option maxHeartbeats 4000000 in
theorem wkX1_rows_2 {x1 : Int32} {x2 : Int32} {w_zI1021 : Int32} {w_zI1517 : Int32} {w_zL1024 : Int64} {w_aI1123 : Nat → Int32} {w_aI1161 : Nat → Int32} {w_aI1165 : Nat → Int32} {d : Nat} {f_X1_rows_2 : (Int32) → (Int32) → (Int64) → (Nat → Int32) → (Nat → Int32) → (Nat → Int32) → Int32 → Int32 → Option ((Int32) × (Int32) × (Int64) × (Nat → Int32) × (Nat → Int32) × (Nat → Int32))} (hrec_X1_rows_2 : ∀ (σ1 : Sto) {v_zI1021 : Int32} {v_zI1517 : Int32} {v_zL1024 : Int64} {v_aI1123 : Nat → Int32} {v_aI1161 : Nat → Int32} {v_aI1165 : Nat → Int32} {x1 : Int32} {x2 : Int32} {w_zI1021 : Int32} {w_zI1517 : Int32} {w_zL1024 : Int64} {w_aI1123 : Nat → Int32} {w_aI1161 : Nat → Int32} {w_aI1165 : Nat → Int32} (_ : σ1.1 2008 = (σ.1 2008)) (_ : σ1.1 2012 = (σ.1 2012)) (_ : σ1.1 2013 = (σ.1 2013)) (_ : σ1.1 2027 = (σ.1 2027)) (_ : σ1.1 2032 = (σ.1 2032)) (_ : σ1.2.2.1 1170 = (σ.2.2.1 1170)) (_ : σ1.2.2.1 2037 = (σ.2.2.1 2037)) (_ : σ1.2.2.1 2043 = (σ.2.2.1 2043)) (_ : σ1.2.2.2.1 1140 = (σ.2.2.2.1 1140)) (_ : nr = nr) (_ : nw = nw) (_ : (fun k => σ1.1 (6000 + 16 * k + 2)) = (fun k => σ.1 (6000 + 16 * k + 2))) (_ : (fun k => σ1.1 (6000 + 16 * k + 5)) = (fun k => σ.1 (6000 + 16 * k + 5))) (_ : (fun k => σ1.1 (6000 + 16 * k + 6)) = (fun k => σ.1 (6000 + 16 * k + 6))) (_ : (fun k => σ1.1 (8000 + 16 * k + 1)) = (fun k => σ.1 (8000 + 16 * k + 1))) (_ : (fun k => σ1.1 (8000 + 16 * k + 2)) = (fun k => σ.1 (8000 + 16 * k + 2))) (_ : (fun k => σ1.2.2.1 (4000 + 16 * k)) = (fun k => σ.2.2.1 (4000 + 16 * k))) (_ : σ1.1 1021 = v_zI1021) (_ : σ1.1 1517 = v_zI1517) (_ : σ1.2.1 1024 = v_zL1024) (_ : σ1.2.2.1 1123 = v_aI1123) (_ : σ1.2.2.1 1161 = v_aI1161) (_ : σ1.2.2.1 1165 = v_aI1165), f_X1_rows_2 v_zI1021 v_zI1517 v_zL1024 v_aI1123 v_aI1161 v_aI1165 x1 x2 = some (w_zI1021, w_zI1517, w_zL1024, w_aI1123, w_aI1161, w_aI1165) → CtG l D G dsc ad yX1_rows_2 (ws_ yX1_rows_2 cX1_rows_2 7 (Option.none : Option Jvm.ClassFile.FieldType)) (rmG_R d) [.ref (ad 1000), .int x1, .int x2] σ1 none (aI (aI (aI (zL (zI (zI σ1 1021 w_zI1021) 1517 w_zI1517) 1024 w_zL1024) 1123 w_aI1123) 1161 w_aI1161) 1165 w_aI1165)) (E : EN p s m args meth c0 RX1 cX1_rows_2 7 (Option.none : Option Jvm.ClassFile.FieldType)) (hX : KX D G ad A s s.heap) (hD : XD dsc nr nw nu) (hA : ∀ q, PA dsc ad s.heap.size q → A q) (hf : xo_X1_rows_2_B f_X1_rows_2 (σ.1 2008) (σ.1 2012) (σ.1 2013) (σ.1 2027) (σ.1 2032) (σ.2.2.1 1170) (σ.2.2.1 2037) (σ.2.2.1 2043) (σ.2.2.2.1 1140) nr nw (fun k => σ.1 (6000 + 16 * k + 2)) (fun k => σ.1 (6000 + 16 * k + 5)) (fun k => σ.1 (6000 + 16 * k + 6)) (fun k => σ.1 (8000 + 16 * k + 1)) (fun k => σ.1 (8000 + 16 * k + 2)) (fun k => σ.2.2.1 (4000 + 16 * k)) (σ.1 1021) (σ.1 1517) (σ.2.1 1024) (σ.2.2.1 1123) (σ.2.2.1 1161) (σ.2.2.1 1165) x1 x2 = some (w_zI1021, w_zI1517, w_zL1024, w_aI1123, w_aI1161, w_aI1165)) (hQ : Q = MQ below (va_G1 none (fun t => PIC D clsA G dsc ad (sgX1_rows_2 σ w_zI1021 w_zI1517 w_zL1024 w_aI1123 w_aI1161 w_aI1165) t.heap) A) args s 0 0 A) (hP : PIC D clsA G dsc ad σ H) (hS : va_S A s.heap H locs) (hl : lv_has ls 7 [(0, .ref (ad 1000)), (1, .int x1), (2, .int x2)]) : W p l e (rmG_R (d + 1)) s m args below meth c0 H locs 0 0 Q (F0 m 0 ls []) := by
  obtain ⟨⟨hx, hb, hml, hown, hts⟩, hr, hlk⟩ := id E
  have hP := hP.to (sgX1_rows_2_self σ).symm
  unfold xo_X1_rows_2_B at hf
  refine lv_aload_n hx hb dX1_rows_2_0 rfl (lv_at hl 0 rfl) ?_
  refine gx_X1_33_1000 E hX hD hP dX1_rows_2_1 ?_
  refine gx_X1_246_2000 E hX hD hP dX1_rows_2_4 ?_
  obtain ⟨v1, u2, hf⟩ := bdP hf
  refine cx_X1_190_J2_size_Ld E hX hD hP hS hA (kxJ2_size_Ld l D G hD sgX1_rows_2_rzI2027 u2) ⟨rfl, rfl⟩ ⟨by dsimp only [rmG_R, rmJ2_size_Ld]; omega, by dsimp only [rmG_R, rmJ2_size_Ld]; omega⟩ ⟨Nat.zero_le _, Nat.zero_le _⟩ hl.1 (Nat.le_of_ble_eq_true rfl) dX1_rows_2_7 (fun H locs hP hS => ?_)
  refine lv_istore_n (lv' := [(3, .int v1), (0, .ref (ad 1000)), (1, .int x1), (2, .int x2)]) hx hb dX1_rows_2_10 rfl hl (by decide) rfl (fun ls hl => ?_)
  refine lv_iload_n hx hb dX1_rows_2_11 rfl (lv_at hl 2 rfl) ?_
  refine lv_iload_n hx hb dX1_rows_2_12 rfl (lv_at hl 0 rfl) ?_
  refine lv_icmp_ge (tgt := 69) hx hb dX1_rows_2_13 (by decide) (fun c3 => ?_) (fun c3 => ?_)
  · have hf := ifT c3 hf
    refine lv_aload_n hx hb dX1_rows_2_69 rfl (lv_at hl 1 rfl) ?_
    refine gx_X1_81_1000 E hX hD hP dX1_rows_2_70 ?_
    refine lv_iload_n hx hb dX1_rows_2_73 rfl (lv_at hl 0 rfl) ?_
    refine ux_X1_165_1512 E hX hD hP hS (hA _ (PA_c (hD.1 _ _ dX_1512))) sgX1_rows_2_zI1517 dX1_rows_2_74 (fun H locs hP hS => ?_)
    refine lv_aload_n hx hb dX1_rows_2_77 rfl (lv_at hl 1 rfl) ?_
    refine gx_X1_81_1000 E hX hD hP dX1_rows_2_78 ?_
    obtain ⟨⟨v4, a5⟩, u6, hf⟩ := bdP hf
    dsimp only at hf
    refine cx_X1_361_X9_mean_p8 E hX hD hP hS hA (kxX9_mean_p8 l D G hD sgX1_rows_2_rzI1517 sgX1_rows_2_rzI2008 sgX1_rows_2_rzI2012 sgX1_rows_2_rzI2013 sgX1_rows_2_rzI2027 sgX1_rows_2_rzI2032 sgX1_rows_2_raI1161 sgX1_rows_2_raI1165 sgX1_rows_2_raI1170 sgX1_rows_2_raI2037 sgX1_rows_2_raI2043 sgX1_rows_2_raL1140 rfl rfl sgX1_rows_2_rpR2 sgX1_rows_2_rpR5 sgX1_rows_2_rpR6 sgX1_rows_2_rpW1 sgX1_rows_2_rpW2 sgX1_rows_2_rgG0 u6) ⟨rfl, rfl⟩ ⟨by dsimp only [rmG_R, rmX9_mean_p8]; omega, by dsimp only [rmG_R, rmX9_mean_p8]; omega⟩ ⟨Nat.zero_le _, Nat.zero_le _⟩ hl.1 (Nat.le_of_ble_eq_true rfl) dX1_rows_2_81 (fun H locs hP hS => ?_)
    rw [sgX1_rows_2_aI1161] at hP
    refine lv_lstore (lv' := [(4, .long v4), (3, .int v1), (0, .ref (ad 1000)), (1, .int x1), (2, .int x2)]) hx hb dX1_rows_2_84 hl (by decide) rfl (fun ls hl => ?_)
    refine lv_aload_n hx hb dX1_rows_2_86 rfl (lv_at hl 2 rfl) ?_
    refine gx_X1_178_1000 (v := (σ.1 1021)) E hX hD hP sgX1_rows_2_rzI1021 dX1_rows_2_87 ?_
    have J124 : xo_X1_rows_2_J124 (σ.2.2.1 1123) (σ.2.2.1 1165) v1 v4 a5 = some (w_zI1021, w_zI1517, w_zL1024, w_aI1123, w_aI1161, w_aI1165) → ∀ (H : Heap) (locs : List Loc), PIC D clsA G dsc ad (sgX1_rows_2 σ (σ.1 1021) v1 (σ.2.1 1024) (σ.2.2.1 1123) a5 (σ.2.2.1 1165)) H → va_S A s.heap H locs → ∀ (ls : Array Slot), lv_has ls 7 [(0, .ref (ad 1000)), (3, .int v1), (4, .long v4)] → W p l e (rmG_R (d + 1)) s m args below meth c0 H locs 0 0 Q (F0 m 124 ls []) := by
      intro  hf H locs hP hS ls hl
      unfold xo_X1_rows_2_J124 at hf
      refine lv_aload_n hx hb dX1_rows_2_124 rfl (lv_at hl 0 rfl) ?_
      refine lv_iconst hx hb dX1_rows_2_125 ic_1 ?_
      refine ux_X1_178_1000 E hX hD hP hS (hA _ (PA_c (hD.1 _ _ dX_1000))) rfl rfl sgX1_rows_2_zI1021 dX1_rows_2_126 (fun H locs hP hS => ?_)
      refine lv_aload_n hx hb dX1_rows_2_129 rfl (lv_at hl 0 rfl) ?_
      refine lv_lload hx hb dX1_rows_2_130 (lv_at hl 2 rfl) ?_
      refine ux_X1_362_1000 E hX hD hP hS (hA _ (PA_c (hD.1 _ _ dX_1000))) sgX1_rows_2_zL1024 dX1_rows_2_132 (fun H locs hP hS => ?_)
      refine lv_iconst hx hb dX1_rows_2_135 ic_0 ?_
      refine lv_istore (lv' := [(6, .int 0), (0, .ref (ad 1000)), (3, .int v1), (4, .long v4)]) hx hb dX1_rows_2_136 hl (by decide) rfl (fun ls hl => ?_)
      have LP138 : ∀ (st138 : Int32 × (Nat → Int32)) (ex138 : ((Nat → Int32))), loop (xo_X1_rows_2_L138 (σ.2.2.1 1165) v1) st138 = some ex138 → ∀ (H : Heap) (locs : List Loc), PIC D clsA G dsc ad (sgX1_rows_2 σ 1 v1 v4 (st138.2) a5 (σ.2.2.1 1165)) H → va_S A s.heap H locs → ∀ (ls : Array Slot), lv_has ls 7 [(0, .ref (ad 1000)), (3, .int v1), (6, .int (st138.1))] → (∀ (a13 : Nat → Int32), ex138 = a13 → ∀ (H : Heap) (locs : List Loc), PIC D clsA G dsc ad (sgX1_rows_2 σ 1 v1 v4 a13 a5 (σ.2.2.1 1165)) H → va_S A s.heap H locs → ∀ (ls : Array Slot), lv_has ls 7 [] → W p l e (rmG_R (d + 1)) s m args below meth c0 H locs 0 0 Q (F0 m 167 ls [])) → W p l e (rmG_R (d + 1)) s m args below meth c0 H locs 0 0 Q (F0 m 138 ls []) := by
        refine loop_P (fun st138 ex138 o138 hf ih138 hx138 => ?_)
        obtain ⟨y7, a8⟩ := st138
        intro H locs (hP : PIC D clsA G dsc ad (sgX1_rows_2 σ 1 v1 v4 a8 a5 (σ.2.2.1 1165)) H) hS ls (hl : lv_has ls 7 [(0, .ref (ad 1000)), (3, .int v1), (6, .int y7)]) KE138_0
        dsimp only [xo_X1_rows_2_L138] at hf
        refine lv_iload hx hb dX1_rows_2_138 (lv_at hl 2 rfl) ?_
        refine lv_iload_n hx hb dX1_rows_2_140 rfl (lv_at hl 1 rfl) ?_
        refine lv_icmp_ge (tgt := 167) hx hb dX1_rows_2_141 (by decide) (fun c9 => ?_) (fun c9 => ?_)
        · have hf := ifT c9 hf
          exact KE138_0 _ (hx138 _ (Option.some.inj hf).symm).symm H locs hP hS ls (lv_sub hl [] rfl)
        · have hf := ifF c9 hf
          refine lv_aload_n hx hb dX1_rows_2_144 rfl (lv_at hl 0 rfl) ?_
          refine gx_X1_117_1000 E hX hD hP dX1_rows_2_145 ?_
          refine lv_iload hx hb dX1_rows_2_148 (lv_at hl 2 rfl) ?_
          refine lv_aload_n hx hb dX1_rows_2_150 rfl (lv_at hl 0 rfl) ?_
          refine gx_X1_81_1000 E hX hD hP dX1_rows_2_151 ?_
          refine gx_X1_354_1512 E hX hD hP dX1_rows_2_154 ?_
          refine lv_iload hx hb dX1_rows_2_157 (lv_at hl 2 rfl) ?_
          obtain ⟨v10, hv10, hf⟩ := bdP hf
          refine p_iald hx hb hX.1 hP (hD.1 _ _ dX_1165) sgX1_rows_2_raI1165 hv10 dX1_rows_2_159 ?_
          obtain ⟨a11, ha11, hf⟩ := bdP hf
          refine p_iast hx hb hX.1 hP hS (hA _ (PA_c (hD.1 _ _ dX_1123))) (hD.1 _ _ dX_1123) sgX1_rows_2_raI1123 ha11 sgX1_rows_2_aI1123 dX1_rows_2_160 (fun H locs hP hS => ?_)
          obtain ⟨v12, hv12, hf⟩ := bdP hf
          refine lv_iinc (v := v12) (lv' := [(6, .int v12), (0, .ref (ad 1000)), (3, .int v1)]) hx hb dX1_rows_2_161 hl (k := 2) rfl (Option.some.inj hv12) (by decide) rfl (fun ls hl => ?_)
          refine lv_goto (tgt := 138) hx hb dX1_rows_2_164 (by decide) ?_
          exact ih138 _ (Option.some.inj hf).symm H locs hP hS ls (lv_sub hl [1, 2, 0] rfl) KE138_0
      obtain ⟨ex138, hlp138, hf⟩ := bdP hf
      refine LP138 (0, (σ.2.2.1 1123)) ex138 hlp138 H locs hP hS ls (lv_sub hl [1, 2, 0] rfl) ?_
      intro a13 hex138 H locs hP hS ls hl
      subst ex138
      cases hf
      rw [hQ]; exact g_vret hx hb hr hlk hP hS dX1_rows_2_167
    refine lv_if_eq (tgt := 124) hx hb dX1_rows_2_90 (by decide) (fun c14 => ?_) (fun c14 => ?_)
    · have hf := ifT c14 hf
      exact J124  hf H locs hP hS ls (lv_sub hl [2, 1, 0] rfl)
    · have hf := ifF c14 hf
      refine lv_lload hx hb dX1_rows_2_93 (lv_at hl 0 rfl) ?_
      refine lv_ldc2 hx hb hown (hts _ q1335) dX1_rows_2_95 ?_
      refine W.lcmp hx hb dX1_rows_2_98 ?_
      refine lv_if_eq (tgt := 123) hx hb dX1_rows_2_99 (by decide) (fun c15 => ?_) (fun c15 => ?_)
      · have hf := ifT ((lgc_eq _ _).mp c15) hf
        cases hf
        rw [hQ]; exact g_vret hx hb hr hlk hP hS dX1_rows_2_123
      · have hf := ifF (mt (lgc_eq _ _).mpr c15) hf
        refine lv_aload_n hx hb dX1_rows_2_102 rfl (lv_at hl 2 rfl) ?_
        refine gx_X1_362_1000 (v := (σ.2.1 1024)) E hX hD hP sgX1_rows_2_rzL1024 dX1_rows_2_103 ?_
        refine lv_ldc2 hx hb hown (hts _ q1335) dX1_rows_2_106 ?_
        refine W.lcmp hx hb dX1_rows_2_109 ?_
        refine lv_if_eq (tgt := 124) hx hb dX1_rows_2_110 (by decide) (fun c16 => ?_) (fun c16 => ?_)
        · have hf := ifT ((lgc_eq _ _).mp c16) hf
          exact J124  hf H locs hP hS ls (lv_sub hl [2, 1, 0] rfl)
        · have hf := ifF (mt (lgc_eq _ _).mpr c16) hf
          refine lv_lload hx hb dX1_rows_2_113 (lv_at hl 0 rfl) ?_
          refine lv_aload_n hx hb dX1_rows_2_115 rfl (lv_at hl 2 rfl) ?_
          refine gx_X1_362_1000 (v := (σ.2.1 1024)) E hX hD hP sgX1_rows_2_rzL1024 dX1_rows_2_116 ?_
          refine W.lcmp hx hb dX1_rows_2_119 ?_
          refine lv_if_lt (tgt := 124) hx hb dX1_rows_2_120 (by decide) (fun c17 => ?_) (fun c17 => ?_)
          · have hf := ifT ((lgc_lt _ _).mp c17) hf
            exact J124  hf H locs hP hS ls (lv_sub hl [2, 1, 0] rfl)
          · have hf := ifF (mt (lgc_lt _ _).mpr c17) hf
            cases hf
            rw [hQ]; exact g_vret hx hb hr hlk hP hS dX1_rows_2_123
  · have hf := ifF c3 hf
    refine lv_iconst hx hb dX1_rows_2_16 ic_0 ?_
    refine lv_istore (lv' := [(4, .int 0), (3, .int v1), (0, .ref (ad 1000)), (1, .int x1), (2, .int x2)]) hx hb dX1_rows_2_17 hl (by decide) rfl (fun ls hl => ?_)
    have LP19 : ∀ (st19 : Int32 × Int32 × Int32 × Int64 × (Nat → Int32) × (Nat → Int32) × (Nat → Int32)) (ex19 : (Int32 × Int32 × Int64 × (Nat → Int32) × (Nat → Int32) × (Nat → Int32))), loop (xo_X1_rows_2_L19 v1 x1 x2 f_X1_rows_2) st19 = some ex19 → ∀ (H : Heap) (locs : List Loc), PIC D clsA G dsc ad (sgX1_rows_2 σ (st19.2.1) (st19.2.2.1) (st19.2.2.2.1) (st19.2.2.2.2.1) (st19.2.2.2.2.2.1) (st19.2.2.2.2.2.2)) H → va_S A s.heap H locs → ∀ (ls : Array Slot), lv_has ls 7 [(0, .ref (ad 1000)), (1, .int x1), (2, .int x2), (3, .int v1), (4, .int (st19.1))] → (∀ (z42 : Int32) (z43 : Int32) (z44 : Int64) (a45 : Nat → Int32) (a46 : Nat → Int32) (a47 : Nat → Int32), ex19 = (z42, z43, z44, a45, a46, a47) → ∀ (H : Heap) (locs : List Loc), PIC D clsA G dsc ad (sgX1_rows_2 σ z42 z43 z44 a45 a46 a47) H → va_S A s.heap H locs → ∀ (ls : Array Slot), lv_has ls 7 [] → W p l e (rmG_R (d + 1)) s m args below meth c0 H locs 0 0 Q (F0 m 68 ls [])) → W p l e (rmG_R (d + 1)) s m args below meth c0 H locs 0 0 Q (F0 m 19 ls []) := by
      refine loop_P (fun st19 ex19 o19 hf ih19 hx19 => ?_)
      obtain ⟨y18, z19, z20, z21, a22, a23, a24⟩ := st19
      intro H locs (hP : PIC D clsA G dsc ad (sgX1_rows_2 σ z19 z20 z21 a22 a23 a24) H) hS ls (hl : lv_has ls 7 [(0, .ref (ad 1000)), (1, .int x1), (2, .int x2), (3, .int v1), (4, .int y18)]) KE19_0
      dsimp only [xo_X1_rows_2_L19] at hf
      refine lv_iload hx hb dX1_rows_2_19 (lv_at hl 4 rfl) ?_
      refine lv_iload_n hx hb dX1_rows_2_21 rfl (lv_at hl 3 rfl) ?_
      refine lv_icmp_ge (tgt := 68) hx hb dX1_rows_2_22 (by decide) (fun c25 => ?_) (fun c25 => ?_)
      · have hf := ifT c25 hf
        exact KE19_0 _ _ _ _ _ _ (hx19 _ (Option.some.inj hf).symm).symm H locs hP hS ls (lv_sub hl [] rfl)
      · have hf := ifF c25 hf
        refine lv_iload_n hx hb dX1_rows_2_25 rfl (lv_at hl 2 rfl) ?_
        refine lv_iload hx hb dX1_rows_2_26 (lv_at hl 4 rfl) ?_
        refine lv_ishr hx hb dX1_rows_2_28 ?_
        refine lv_iconst hx hb dX1_rows_2_29 ic_1 ?_
        refine lv_iand hx hb dX1_rows_2_30 ?_
        refine lv_iconst hx hb dX1_rows_2_31 ic_1 ?_
        have J62 : ∀ (z26 : Int32) (z27 : Int32) (z28 : Int64) (a29 : Nat → Int32) (a30 : Nat → Int32) (a31 : Nat → Int32), xo_X1_rows_2_J62 y18 z26 z27 z28 a29 a30 a31 = some o19 → ∀ (H : Heap) (locs : List Loc), PIC D clsA G dsc ad (sgX1_rows_2 σ z26 z27 z28 a29 a30 a31) H → va_S A s.heap H locs → ∀ (ls : Array Slot), lv_has ls 7 [(0, .ref (ad 1000)), (1, .int x1), (2, .int x2), (3, .int v1), (4, .int y18)] → W p l e (rmG_R (d + 1)) s m args below meth c0 H locs 0 0 Q (F0 m 62 ls []) := by
          intro z26 z27 z28 a29 a30 a31 hf H locs hP hS ls hl
          unfold xo_X1_rows_2_J62 at hf
          obtain ⟨v32, hv32, hf⟩ := bdP hf
          refine lv_iinc (v := v32) (lv' := [(4, .int v32), (0, .ref (ad 1000)), (1, .int x1), (2, .int x2), (3, .int v1)]) hx hb dX1_rows_2_62 hl (k := 4) rfl (Option.some.inj hv32) (by decide) rfl (fun ls hl => ?_)
          refine lv_goto (tgt := 19) hx hb dX1_rows_2_65 (by decide) ?_
          exact ih19 _ (Option.some.inj hf).symm H locs hP hS ls (lv_sub hl [1, 2, 3, 4, 0] rfl) KE19_0
        refine lv_icmp_ne (tgt := 38) hx hb dX1_rows_2_32 (by decide) (fun c33 => ?_) (fun c33 => ?_)
        · have hf := ifF c33 hf
          refine lv_aload_n hx hb dX1_rows_2_38 rfl (lv_at hl 0 rfl) ?_
          refine gx_X1_81_1000 E hX hD hP dX1_rows_2_39 ?_
          refine gx_X1_354_1512 E hX hD hP dX1_rows_2_42 ?_
          refine lv_iload_n hx hb dX1_rows_2_45 rfl (lv_at hl 1 rfl) ?_
          refine lv_iload hx hb dX1_rows_2_46 (lv_at hl 4 rfl) ?_
          obtain ⟨a34, ha34, hf⟩ := bdP hf
          refine p_iast hx hb hX.1 hP hS (hA _ (PA_c (hD.1 _ _ dX_1165))) (hD.1 _ _ dX_1165) sgX1_rows_2_raI1165 ha34 sgX1_rows_2_aI1165 dX1_rows_2_48 (fun H locs hP hS => ?_)
          refine lv_aload_n hx hb dX1_rows_2_49 rfl (lv_at hl 0 rfl) ?_
          refine lv_iload_n hx hb dX1_rows_2_50 rfl (lv_at hl 1 rfl) ?_
          refine lv_iconst hx hb dX1_rows_2_51 ic_1 ?_
          refine lv_iadd hx hb dX1_rows_2_52 ?_
          refine lv_iload_n hx hb dX1_rows_2_53 rfl (lv_at hl 2 rfl) ?_
          refine lv_iconst hx hb dX1_rows_2_54 ic_1 ?_
          refine lv_iload hx hb dX1_rows_2_55 (lv_at hl 4 rfl) ?_
          refine lv_ishl hx hb dX1_rows_2_57 ?_
          refine lv_ior hx hb dX1_rows_2_58 ?_
          obtain ⟨⟨z35, z36, z37, a38, a39, a40⟩, u41, hf⟩ := bdP hf
          dsimp only at hf
          refine cx_X1_357_X1_rows_2 E hX hD hP hS hA (hrec_X1_rows_2 _ sgX1_rows_2_rzI2008 sgX1_rows_2_rzI2012 sgX1_rows_2_rzI2013 sgX1_rows_2_rzI2027 sgX1_rows_2_rzI2032 sgX1_rows_2_raI1170 sgX1_rows_2_raI2037 sgX1_rows_2_raI2043 sgX1_rows_2_raL1140 rfl rfl sgX1_rows_2_rpR2 sgX1_rows_2_rpR5 sgX1_rows_2_rpR6 sgX1_rows_2_rpW1 sgX1_rows_2_rpW2 sgX1_rows_2_rgG0 sgX1_rows_2_rzI1021 sgX1_rows_2_rzI1517 sgX1_rows_2_rzL1024 sgX1_rows_2_raI1123 sgX1_rows_2_raI1161 sgX1_rows_2_raI1165 u41) ⟨rfl, rfl⟩ ⟨Nat.le_refl _, by dsimp only [rmG_R]; omega⟩ ⟨Nat.zero_le _, Nat.zero_le _⟩ hl.1 (Nat.le_of_ble_eq_true rfl) dX1_rows_2_59 (fun H locs hP hS => ?_)
          rw [sgX1_rows_2_zI1021, sgX1_rows_2_zI1517, sgX1_rows_2_zL1024, sgX1_rows_2_aI1123, sgX1_rows_2_aI1161, sgX1_rows_2_aI1165] at hP
          exact J62 z35 z36 z37 a38 a39 a40 hf H locs hP hS ls (lv_sub hl [0, 1, 2, 3, 4] rfl)
        · have hf := ifT c33 hf
          refine lv_goto (tgt := 62) hx hb dX1_rows_2_35 (by decide) ?_
          exact J62 z19 z20 z21 a22 a23 a24 hf H locs hP hS ls (lv_sub hl [0, 1, 2, 3, 4] rfl)
    obtain ⟨ex19, hlp19, hf⟩ := bdP hf
    refine LP19 (0, (σ.1 1021), (σ.1 1517), (σ.2.1 1024), (σ.2.2.1 1123), (σ.2.2.1 1161), (σ.2.2.1 1165)) ex19 hlp19 H locs hP hS ls (lv_sub hl [2, 3, 4, 1, 0] rfl) ?_
    intro z42 z43 z44 a45 a46 a47 hex19 H locs hP hS ls hl
    subst ex19
    dsimp only at hf
    cases hf
    rw [hQ]; exact g_vret hx hb hr hlk hP hS dX1_rows_2_68
theorem kg_R (l : Launch) (D : va_G) (G : Nat → ClassId) {dsc : Nat → Option Dsc} {ad : Nat → Nat} {nr nw nu : Nat} (hD : XD dsc nr nw nu) {z_L_places : Int32} {z_L_from : Int32} {z_L_to : Int32} {z_Ld_size : Int32} {z_Lw_size : Int32} {a_UNIT : Nat → Int32} {a_Lw_data : Nat → Int32} {a_L_seen : Nat → Int32} {a_W_world : Nat → Int64} {n_r : Nat} {n_w : Nat} {p_road_hours : Nat → Int32} {p_road_wait : Nat → Int32} {p_road_number : Nat → Int32} {p_word_road : Nat → Int32} {p_word_hours : Nat → Int32} {g_grid : Nat → Nat → Int32} : ∀ d : Nat, (∀ (σ1 : Sto) {v_zI1021 : Int32} {v_zI1517 : Int32} {v_zL1024 : Int64} {v_aI1123 : Nat → Int32} {v_aI1161 : Nat → Int32} {v_aI1165 : Nat → Int32} {x1 : Int32} {x2 : Int32} {w_zI1021 : Int32} {w_zI1517 : Int32} {w_zL1024 : Int64} {w_aI1123 : Nat → Int32} {w_aI1161 : Nat → Int32} {w_aI1165 : Nat → Int32} (_ : σ1.1 2008 = z_L_places) (_ : σ1.1 2012 = z_L_from) (_ : σ1.1 2013 = z_L_to) (_ : σ1.1 2027 = z_Ld_size) (_ : σ1.1 2032 = z_Lw_size) (_ : σ1.2.2.1 1170 = a_UNIT) (_ : σ1.2.2.1 2037 = a_Lw_data) (_ : σ1.2.2.1 2043 = a_L_seen) (_ : σ1.2.2.2.1 1140 = a_W_world) (_ : nr = n_r) (_ : nw = n_w) (_ : (fun k => σ1.1 (6000 + 16 * k + 2)) = p_road_hours) (_ : (fun k => σ1.1 (6000 + 16 * k + 5)) = p_road_wait) (_ : (fun k => σ1.1 (6000 + 16 * k + 6)) = p_road_number) (_ : (fun k => σ1.1 (8000 + 16 * k + 1)) = p_word_road) (_ : (fun k => σ1.1 (8000 + 16 * k + 2)) = p_word_hours) (_ : (fun k => σ1.2.2.1 (4000 + 16 * k)) = g_grid) (_ : σ1.1 1021 = v_zI1021) (_ : σ1.1 1517 = v_zI1517) (_ : σ1.2.1 1024 = v_zL1024) (_ : σ1.2.2.1 1123 = v_aI1123) (_ : σ1.2.2.1 1161 = v_aI1161) (_ : σ1.2.2.1 1165 = v_aI1165), (xg_R z_L_places z_L_from z_L_to z_Ld_size z_Lw_size a_UNIT a_Lw_data a_L_seen a_W_world n_r n_w p_road_hours p_road_wait p_road_number p_word_road p_word_hours g_grid d) v_zI1021 v_zI1517 v_zL1024 v_aI1123 v_aI1161 v_aI1165 x1 x2 = some (w_zI1021, w_zI1517, w_zL1024, w_aI1123, w_aI1161, w_aI1165) → CtG l D G dsc ad yX1_rows_2 (ws_ yX1_rows_2 cX1_rows_2 7 (Option.none : Option Jvm.ClassFile.FieldType)) (rmG_R d) [.ref (ad 1000), .int x1, .int x2] σ1 none (aI (aI (aI (zL (zI (zI σ1 1021 w_zI1021) 1517 w_zI1517) 1024 w_zL1024) 1123 w_aI1123) 1161 w_aI1161) 1165 w_aI1165)) := by
  intro d
  induction d with
  | zero =>
    refine ?_ <;> (intros; rename_i hu; simp [xg_R] at hu)
  | succ d ih =>
    refine ?_
    · intro σ v_zI1021 v_zI1517 v_zL1024 v_aI1123 v_aI1161 v_aI1165 x1 x2 w_zI1021 w_zI1517 w_zL1024 w_aI1123 w_aI1161 w_aI1165 e_zI2008 e_zI2012 e_zI2013 e_zI2027 e_zI2032 e_aI1170 e_aI2037 e_aI2043 e_aL1140 e_nN0 e_nN1 e_pR2 e_pR5 e_pR6 e_pW1 e_pW2 e_gG0 e_zI1021 e_zI1517 e_zL1024 e_aI1123 e_aI1161 e_aI1165 hu
      subst e_zI2008
      subst e_zI2012
      subst e_zI2013
      subst e_zI2027
      subst e_zI2032
      subst e_aI1170
      subst e_aI2037
      subst e_aI2043
      subst e_aL1140
      subst e_nN0
      subst e_nN1
      subst e_pR2
      subst e_pR5
      subst e_pR6
      subst e_pW1
      subst e_pW2
      subst e_gG0
      subst e_zI1021
      subst e_zI1517
      subst e_zL1024
      subst e_aI1123
      subst e_aI1161
      subst e_aI1165
      exact p_ctG (by decide +kernel) (Nat.le_of_ble_eq_true rfl) (fun p e s m below meth c0 ls A E hP hX hA hS hl => wkX1_rows_2 ih E hX hD hA hu rfl hP hS hl)
theorem kxX1_rows_2 (l : Launch) (D : va_G) (G : Nat → ClassId) {dsc : Nat → Option Dsc} {ad : Nat → Nat} {σ : Sto} {nr nw nu : Nat} (hD : XD dsc nr nw nu) {x1 : Int32} {x2 : Int32} {w_zI1021 : Int32} {w_zI1517 : Int32} {w_zL1024 : Int64} {w_aI1123 : Nat → Int32} {w_aI1161 : Nat → Int32} {w_aI1165 : Nat → Int32} {z_X_hasRows : Int32} (e_zI1021 : σ.1 1021 = z_X_hasRows) {z_p8_many : Int32} (e_zI1517 : σ.1 1517 = z_p8_many) {z_L_places : Int32} (e_zI2008 : σ.1 2008 = z_L_places) {z_L_from : Int32} (e_zI2012 : σ.1 2012 = z_L_from) {z_L_to : Int32} (e_zI2013 : σ.1 2013 = z_L_to) {z_Ld_size : Int32} (e_zI2027 : σ.1 2027 = z_Ld_size) {z_Lw_size : Int32} (e_zI2032 : σ.1 2032 = z_Lw_size) {z_X_bestRowMean : Int64} (e_zL1024 : σ.2.1 1024 = z_X_bestRowMean) {a_X_bestRow : Nat → Int32} (e_aI1123 : σ.2.2.1 1123 = a_X_bestRow) {a_p8_far : Nat → Int32} (e_aI1161 : σ.2.2.1 1161 = a_p8_far) {a_p8_row : Nat → Int32} (e_aI1165 : σ.2.2.1 1165 = a_p8_row) {a_UNIT : Nat → Int32} (e_aI1170 : σ.2.2.1 1170 = a_UNIT) {a_Lw_data : Nat → Int32} (e_aI2037 : σ.2.2.1 2037 = a_Lw_data) {a_L_seen : Nat → Int32} (e_aI2043 : σ.2.2.1 2043 = a_L_seen) {a_W_world : Nat → Int64} (e_aL1140 : σ.2.2.2.1 1140 = a_W_world) {n_r : Nat} (e_nN0 : nr = n_r) {n_w : Nat} (e_nN1 : nw = n_w) {p_road_hours : Nat → Int32} (e_pR2 : (fun k => σ.1 (6000 + 16 * k + 2)) = p_road_hours) {p_road_wait : Nat → Int32} (e_pR5 : (fun k => σ.1 (6000 + 16 * k + 5)) = p_road_wait) {p_road_number : Nat → Int32} (e_pR6 : (fun k => σ.1 (6000 + 16 * k + 6)) = p_road_number) {p_word_road : Nat → Int32} (e_pW1 : (fun k => σ.1 (8000 + 16 * k + 1)) = p_word_road) {p_word_hours : Nat → Int32} (e_pW2 : (fun k => σ.1 (8000 + 16 * k + 2)) = p_word_hours) {g_grid : Nat → Nat → Int32} (e_gG0 : (fun k => σ.2.2.1 (4000 + 16 * k)) = g_grid) (hf : (xg_R z_L_places z_L_from z_L_to z_Ld_size z_Lw_size a_UNIT a_Lw_data a_L_seen a_W_world n_r n_w p_road_hours p_road_wait p_road_number p_word_road p_word_hours g_grid 10) z_X_hasRows z_p8_many z_X_bestRowMean a_X_bestRow a_p8_far a_p8_row x1 x2 = some (w_zI1021, w_zI1517, w_zL1024, w_aI1123, w_aI1161, w_aI1165)) : CtG l D G dsc ad yX1_rows_2 (ws_ yX1_rows_2 cX1_rows_2 7 (Option.none : Option Jvm.ClassFile.FieldType)) rmX1_rows_2 [.ref (ad 1000), .int x1, .int x2] σ none (aI (aI (aI (zL (zI (zI σ 1021 w_zI1021) 1517 w_zI1517) 1024 w_zL1024) 1123 w_aI1123) 1161 w_aI1161) 1165 w_aI1165) :=
  (kg_R l D G hD 10) σ e_zI2008 e_zI2012 e_zI2013 e_zI2027 e_zI2032 e_aI1170 e_aI2037 e_aI2043 e_aL1140 e_nN0 e_nN1 e_pR2 e_pR5 e_pR6 e_pW1 e_pW2 e_gG0 e_zI1021 e_zI1517 e_zL1024 e_aI1123 e_aI1161 e_aI1165 hf
/-! X1_rows (I)J -/
def sgX1_rows (σ : Sto) (w0 : Int32) (w1 : Int32) (w2 : Int32) (w3 : Int32) (w4 : Int32) (w5 : Int64) (w6 : Int64) (w7 : Nat → Int32) (w8 : Nat → Int32) (w9 : Nat → Int32) (w10 : Nat → Int32) (w11 : Nat → Int32) (w12 : Nat → Int64) (w13 : Nat → Int64) (w14 : Nat → Int64) (w15 : Nat → Int64) : Sto := aL (aL (aL (aL (aI (aI (aI (aI (aI (zL (zL (zI (zI (zI (zI (zI σ 1018 w0) 1021 w1) 1062 w2) 1082 w3) 1517 w4) 1024 w5) 1052 w6) 1108 w7) 1123 w8) 1161 w9) 1162 w10) 1165 w11) 1140 w12) 1141 w13) 1150 w14) 1152 w15
theorem sgX1_rows_self (σ : Sto) : sgX1_rows σ (σ.1 1018) (σ.1 1021) (σ.1 1062) (σ.1 1082) (σ.1 1517) (σ.2.1 1024) (σ.2.1 1052) (σ.2.2.1 1108) (σ.2.2.1 1123) (σ.2.2.1 1161) (σ.2.2.1 1162) (σ.2.2.1 1165) (σ.2.2.2.1 1140) (σ.2.2.2.1 1141) (σ.2.2.2.1 1150) (σ.2.2.2.1 1152) = σ := by
  unfold sgX1_rows
  simp only [zI_self, zL_self, aI_self, aL_self]
theorem sgX1_rows_zI1018 {σ : Sto} {w0 : Int32} {w1 : Int32} {w2 : Int32} {w3 : Int32} {w4 : Int32} {w5 : Int64} {w6 : Int64} {w7 : Nat → Int32} {w8 : Nat → Int32} {w9 : Nat → Int32} {w10 : Nat → Int32} {w11 : Nat → Int32} {w12 : Nat → Int64} {w13 : Nat → Int64} {w14 : Nat → Int64} {w15 : Nat → Int64} {g : Int32} : zI (sgX1_rows σ w0 w1 w2 w3 w4 w5 w6 w7 w8 w9 w10 w11 w12 w13 w14 w15) 1018 g = sgX1_rows σ g w1 w2 w3 w4 w5 w6 w7 w8 w9 w10 w11 w12 w13 w14 w15 := (cm_zI_aL _ _ _ _ _).trans (congrArg (fun z => aL z 1152 w15) ((cm_zI_aL _ _ _ _ _).trans (congrArg (fun z => aL z 1150 w14) ((cm_zI_aL _ _ _ _ _).trans (congrArg (fun z => aL z 1141 w13) ((cm_zI_aL _ _ _ _ _).trans (congrArg (fun z => aL z 1140 w12) ((cm_zI_aI _ _ _ _ _).trans (congrArg (fun z => aI z 1165 w11) ((cm_zI_aI _ _ _ _ _).trans (congrArg (fun z => aI z 1162 w10) ((cm_zI_aI _ _ _ _ _).trans (congrArg (fun z => aI z 1161 w9) ((cm_zI_aI _ _ _ _ _).trans (congrArg (fun z => aI z 1123 w8) ((cm_zI_aI _ _ _ _ _).trans (congrArg (fun z => aI z 1108 w7) ((cm_zI_zL _ _ _ _ _).trans (congrArg (fun z => zL z 1052 w6) ((cm_zI_zL _ _ _ _ _).trans (congrArg (fun z => zL z 1024 w5) ((zI_comm _ (by decide) _ _).trans (congrArg (fun z => zI z 1517 w4) ((zI_comm _ (by decide) _ _).trans (congrArg (fun z => zI z 1082 w3) ((zI_comm _ (by decide) _ _).trans (congrArg (fun z => zI z 1062 w2) ((zI_comm _ (by decide) _ _).trans (congrArg (fun z => zI z 1021 w1) (zI_zI _ 1018 _ _))))))))))))))))))))))))))))))
theorem sgX1_rows_zI1021 {σ : Sto} {w0 : Int32} {w1 : Int32} {w2 : Int32} {w3 : Int32} {w4 : Int32} {w5 : Int64} {w6 : Int64} {w7 : Nat → Int32} {w8 : Nat → Int32} {w9 : Nat → Int32} {w10 : Nat → Int32} {w11 : Nat → Int32} {w12 : Nat → Int64} {w13 : Nat → Int64} {w14 : Nat → Int64} {w15 : Nat → Int64} {g : Int32} : zI (sgX1_rows σ w0 w1 w2 w3 w4 w5 w6 w7 w8 w9 w10 w11 w12 w13 w14 w15) 1021 g = sgX1_rows σ w0 g w2 w3 w4 w5 w6 w7 w8 w9 w10 w11 w12 w13 w14 w15 := (cm_zI_aL _ _ _ _ _).trans (congrArg (fun z => aL z 1152 w15) ((cm_zI_aL _ _ _ _ _).trans (congrArg (fun z => aL z 1150 w14) ((cm_zI_aL _ _ _ _ _).trans (congrArg (fun z => aL z 1141 w13) ((cm_zI_aL _ _ _ _ _).trans (congrArg (fun z => aL z 1140 w12) ((cm_zI_aI _ _ _ _ _).trans (congrArg (fun z => aI z 1165 w11) ((cm_zI_aI _ _ _ _ _).trans (congrArg (fun z => aI z 1162 w10) ((cm_zI_aI _ _ _ _ _).trans (congrArg (fun z => aI z 1161 w9) ((cm_zI_aI _ _ _ _ _).trans (congrArg (fun z => aI z 1123 w8) ((cm_zI_aI _ _ _ _ _).trans (congrArg (fun z => aI z 1108 w7) ((cm_zI_zL _ _ _ _ _).trans (congrArg (fun z => zL z 1052 w6) ((cm_zI_zL _ _ _ _ _).trans (congrArg (fun z => zL z 1024 w5) ((zI_comm _ (by decide) _ _).trans (congrArg (fun z => zI z 1517 w4) ((zI_comm _ (by decide) _ _).trans (congrArg (fun z => zI z 1082 w3) ((zI_comm _ (by decide) _ _).trans (congrArg (fun z => zI z 1062 w2) (zI_zI _ 1021 _ _))))))))))))))))))))))))))))
theorem sgX1_rows_zI1062 {σ : Sto} {w0 : Int32} {w1 : Int32} {w2 : Int32} {w3 : Int32} {w4 : Int32} {w5 : Int64} {w6 : Int64} {w7 : Nat → Int32} {w8 : Nat → Int32} {w9 : Nat → Int32} {w10 : Nat → Int32} {w11 : Nat → Int32} {w12 : Nat → Int64} {w13 : Nat → Int64} {w14 : Nat → Int64} {w15 : Nat → Int64} {g : Int32} : zI (sgX1_rows σ w0 w1 w2 w3 w4 w5 w6 w7 w8 w9 w10 w11 w12 w13 w14 w15) 1062 g = sgX1_rows σ w0 w1 g w3 w4 w5 w6 w7 w8 w9 w10 w11 w12 w13 w14 w15 := (cm_zI_aL _ _ _ _ _).trans (congrArg (fun z => aL z 1152 w15) ((cm_zI_aL _ _ _ _ _).trans (congrArg (fun z => aL z 1150 w14) ((cm_zI_aL _ _ _ _ _).trans (congrArg (fun z => aL z 1141 w13) ((cm_zI_aL _ _ _ _ _).trans (congrArg (fun z => aL z 1140 w12) ((cm_zI_aI _ _ _ _ _).trans (congrArg (fun z => aI z 1165 w11) ((cm_zI_aI _ _ _ _ _).trans (congrArg (fun z => aI z 1162 w10) ((cm_zI_aI _ _ _ _ _).trans (congrArg (fun z => aI z 1161 w9) ((cm_zI_aI _ _ _ _ _).trans (congrArg (fun z => aI z 1123 w8) ((cm_zI_aI _ _ _ _ _).trans (congrArg (fun z => aI z 1108 w7) ((cm_zI_zL _ _ _ _ _).trans (congrArg (fun z => zL z 1052 w6) ((cm_zI_zL _ _ _ _ _).trans (congrArg (fun z => zL z 1024 w5) ((zI_comm _ (by decide) _ _).trans (congrArg (fun z => zI z 1517 w4) ((zI_comm _ (by decide) _ _).trans (congrArg (fun z => zI z 1082 w3) (zI_zI _ 1062 _ _))))))))))))))))))))))))))
theorem sgX1_rows_zI1082 {σ : Sto} {w0 : Int32} {w1 : Int32} {w2 : Int32} {w3 : Int32} {w4 : Int32} {w5 : Int64} {w6 : Int64} {w7 : Nat → Int32} {w8 : Nat → Int32} {w9 : Nat → Int32} {w10 : Nat → Int32} {w11 : Nat → Int32} {w12 : Nat → Int64} {w13 : Nat → Int64} {w14 : Nat → Int64} {w15 : Nat → Int64} {g : Int32} : zI (sgX1_rows σ w0 w1 w2 w3 w4 w5 w6 w7 w8 w9 w10 w11 w12 w13 w14 w15) 1082 g = sgX1_rows σ w0 w1 w2 g w4 w5 w6 w7 w8 w9 w10 w11 w12 w13 w14 w15 := (cm_zI_aL _ _ _ _ _).trans (congrArg (fun z => aL z 1152 w15) ((cm_zI_aL _ _ _ _ _).trans (congrArg (fun z => aL z 1150 w14) ((cm_zI_aL _ _ _ _ _).trans (congrArg (fun z => aL z 1141 w13) ((cm_zI_aL _ _ _ _ _).trans (congrArg (fun z => aL z 1140 w12) ((cm_zI_aI _ _ _ _ _).trans (congrArg (fun z => aI z 1165 w11) ((cm_zI_aI _ _ _ _ _).trans (congrArg (fun z => aI z 1162 w10) ((cm_zI_aI _ _ _ _ _).trans (congrArg (fun z => aI z 1161 w9) ((cm_zI_aI _ _ _ _ _).trans (congrArg (fun z => aI z 1123 w8) ((cm_zI_aI _ _ _ _ _).trans (congrArg (fun z => aI z 1108 w7) ((cm_zI_zL _ _ _ _ _).trans (congrArg (fun z => zL z 1052 w6) ((cm_zI_zL _ _ _ _ _).trans (congrArg (fun z => zL z 1024 w5) ((zI_comm _ (by decide) _ _).trans (congrArg (fun z => zI z 1517 w4) (zI_zI _ 1082 _ _))))))))))))))))))))))))
theorem sgX1_rows_zI1517 {σ : Sto} {w0 : Int32} {w1 : Int32} {w2 : Int32} {w3 : Int32} {w4 : Int32} {w5 : Int64} {w6 : Int64} {w7 : Nat → Int32} {w8 : Nat → Int32} {w9 : Nat → Int32} {w10 : Nat → Int32} {w11 : Nat → Int32} {w12 : Nat → Int64} {w13 : Nat → Int64} {w14 : Nat → Int64} {w15 : Nat → Int64} {g : Int32} : zI (sgX1_rows σ w0 w1 w2 w3 w4 w5 w6 w7 w8 w9 w10 w11 w12 w13 w14 w15) 1517 g = sgX1_rows σ w0 w1 w2 w3 g w5 w6 w7 w8 w9 w10 w11 w12 w13 w14 w15 := (cm_zI_aL _ _ _ _ _).trans (congrArg (fun z => aL z 1152 w15) ((cm_zI_aL _ _ _ _ _).trans (congrArg (fun z => aL z 1150 w14) ((cm_zI_aL _ _ _ _ _).trans (congrArg (fun z => aL z 1141 w13) ((cm_zI_aL _ _ _ _ _).trans (congrArg (fun z => aL z 1140 w12) ((cm_zI_aI _ _ _ _ _).trans (congrArg (fun z => aI z 1165 w11) ((cm_zI_aI _ _ _ _ _).trans (congrArg (fun z => aI z 1162 w10) ((cm_zI_aI _ _ _ _ _).trans (congrArg (fun z => aI z 1161 w9) ((cm_zI_aI _ _ _ _ _).trans (congrArg (fun z => aI z 1123 w8) ((cm_zI_aI _ _ _ _ _).trans (congrArg (fun z => aI z 1108 w7) ((cm_zI_zL _ _ _ _ _).trans (congrArg (fun z => zL z 1052 w6) ((cm_zI_zL _ _ _ _ _).trans (congrArg (fun z => zL z 1024 w5) (zI_zI _ 1517 _ _))))))))))))))))))))))
theorem sgX1_rows_zL1024 {σ : Sto} {w0 : Int32} {w1 : Int32} {w2 : Int32} {w3 : Int32} {w4 : Int32} {w5 : Int64} {w6 : Int64} {w7 : Nat → Int32} {w8 : Nat → Int32} {w9 : Nat → Int32} {w10 : Nat → Int32} {w11 : Nat → Int32} {w12 : Nat → Int64} {w13 : Nat → Int64} {w14 : Nat → Int64} {w15 : Nat → Int64} {g : Int64} : zL (sgX1_rows σ w0 w1 w2 w3 w4 w5 w6 w7 w8 w9 w10 w11 w12 w13 w14 w15) 1024 g = sgX1_rows σ w0 w1 w2 w3 w4 g w6 w7 w8 w9 w10 w11 w12 w13 w14 w15 := (cm_zL_aL _ _ _ _ _).trans (congrArg (fun z => aL z 1152 w15) ((cm_zL_aL _ _ _ _ _).trans (congrArg (fun z => aL z 1150 w14) ((cm_zL_aL _ _ _ _ _).trans (congrArg (fun z => aL z 1141 w13) ((cm_zL_aL _ _ _ _ _).trans (congrArg (fun z => aL z 1140 w12) ((cm_zL_aI _ _ _ _ _).trans (congrArg (fun z => aI z 1165 w11) ((cm_zL_aI _ _ _ _ _).trans (congrArg (fun z => aI z 1162 w10) ((cm_zL_aI _ _ _ _ _).trans (congrArg (fun z => aI z 1161 w9) ((cm_zL_aI _ _ _ _ _).trans (congrArg (fun z => aI z 1123 w8) ((cm_zL_aI _ _ _ _ _).trans (congrArg (fun z => aI z 1108 w7) ((zL_comm _ (by decide) _ _).trans (congrArg (fun z => zL z 1052 w6) (zL_zL _ 1024 _ _))))))))))))))))))))
theorem sgX1_rows_zL1052 {σ : Sto} {w0 : Int32} {w1 : Int32} {w2 : Int32} {w3 : Int32} {w4 : Int32} {w5 : Int64} {w6 : Int64} {w7 : Nat → Int32} {w8 : Nat → Int32} {w9 : Nat → Int32} {w10 : Nat → Int32} {w11 : Nat → Int32} {w12 : Nat → Int64} {w13 : Nat → Int64} {w14 : Nat → Int64} {w15 : Nat → Int64} {g : Int64} : zL (sgX1_rows σ w0 w1 w2 w3 w4 w5 w6 w7 w8 w9 w10 w11 w12 w13 w14 w15) 1052 g = sgX1_rows σ w0 w1 w2 w3 w4 w5 g w7 w8 w9 w10 w11 w12 w13 w14 w15 := (cm_zL_aL _ _ _ _ _).trans (congrArg (fun z => aL z 1152 w15) ((cm_zL_aL _ _ _ _ _).trans (congrArg (fun z => aL z 1150 w14) ((cm_zL_aL _ _ _ _ _).trans (congrArg (fun z => aL z 1141 w13) ((cm_zL_aL _ _ _ _ _).trans (congrArg (fun z => aL z 1140 w12) ((cm_zL_aI _ _ _ _ _).trans (congrArg (fun z => aI z 1165 w11) ((cm_zL_aI _ _ _ _ _).trans (congrArg (fun z => aI z 1162 w10) ((cm_zL_aI _ _ _ _ _).trans (congrArg (fun z => aI z 1161 w9) ((cm_zL_aI _ _ _ _ _).trans (congrArg (fun z => aI z 1123 w8) ((cm_zL_aI _ _ _ _ _).trans (congrArg (fun z => aI z 1108 w7) (zL_zL _ 1052 _ _))))))))))))))))))
theorem sgX1_rows_aI1108 {σ : Sto} {w0 : Int32} {w1 : Int32} {w2 : Int32} {w3 : Int32} {w4 : Int32} {w5 : Int64} {w6 : Int64} {w7 : Nat → Int32} {w8 : Nat → Int32} {w9 : Nat → Int32} {w10 : Nat → Int32} {w11 : Nat → Int32} {w12 : Nat → Int64} {w13 : Nat → Int64} {w14 : Nat → Int64} {w15 : Nat → Int64} {g : Nat → Int32} : aI (sgX1_rows σ w0 w1 w2 w3 w4 w5 w6 w7 w8 w9 w10 w11 w12 w13 w14 w15) 1108 g = sgX1_rows σ w0 w1 w2 w3 w4 w5 w6 g w8 w9 w10 w11 w12 w13 w14 w15 := (cm_aI_aL _ _ _ _ _).trans (congrArg (fun z => aL z 1152 w15) ((cm_aI_aL _ _ _ _ _).trans (congrArg (fun z => aL z 1150 w14) ((cm_aI_aL _ _ _ _ _).trans (congrArg (fun z => aL z 1141 w13) ((cm_aI_aL _ _ _ _ _).trans (congrArg (fun z => aL z 1140 w12) ((aI_comm _ (by decide) _ _).trans (congrArg (fun z => aI z 1165 w11) ((aI_comm _ (by decide) _ _).trans (congrArg (fun z => aI z 1162 w10) ((aI_comm _ (by decide) _ _).trans (congrArg (fun z => aI z 1161 w9) ((aI_comm _ (by decide) _ _).trans (congrArg (fun z => aI z 1123 w8) (aI_aI _ 1108 _ _))))))))))))))))
theorem sgX1_rows_aI1123 {σ : Sto} {w0 : Int32} {w1 : Int32} {w2 : Int32} {w3 : Int32} {w4 : Int32} {w5 : Int64} {w6 : Int64} {w7 : Nat → Int32} {w8 : Nat → Int32} {w9 : Nat → Int32} {w10 : Nat → Int32} {w11 : Nat → Int32} {w12 : Nat → Int64} {w13 : Nat → Int64} {w14 : Nat → Int64} {w15 : Nat → Int64} {g : Nat → Int32} : aI (sgX1_rows σ w0 w1 w2 w3 w4 w5 w6 w7 w8 w9 w10 w11 w12 w13 w14 w15) 1123 g = sgX1_rows σ w0 w1 w2 w3 w4 w5 w6 w7 g w9 w10 w11 w12 w13 w14 w15 := (cm_aI_aL _ _ _ _ _).trans (congrArg (fun z => aL z 1152 w15) ((cm_aI_aL _ _ _ _ _).trans (congrArg (fun z => aL z 1150 w14) ((cm_aI_aL _ _ _ _ _).trans (congrArg (fun z => aL z 1141 w13) ((cm_aI_aL _ _ _ _ _).trans (congrArg (fun z => aL z 1140 w12) ((aI_comm _ (by decide) _ _).trans (congrArg (fun z => aI z 1165 w11) ((aI_comm _ (by decide) _ _).trans (congrArg (fun z => aI z 1162 w10) ((aI_comm _ (by decide) _ _).trans (congrArg (fun z => aI z 1161 w9) (aI_aI _ 1123 _ _))))))))))))))
theorem sgX1_rows_aI1161 {σ : Sto} {w0 : Int32} {w1 : Int32} {w2 : Int32} {w3 : Int32} {w4 : Int32} {w5 : Int64} {w6 : Int64} {w7 : Nat → Int32} {w8 : Nat → Int32} {w9 : Nat → Int32} {w10 : Nat → Int32} {w11 : Nat → Int32} {w12 : Nat → Int64} {w13 : Nat → Int64} {w14 : Nat → Int64} {w15 : Nat → Int64} {g : Nat → Int32} : aI (sgX1_rows σ w0 w1 w2 w3 w4 w5 w6 w7 w8 w9 w10 w11 w12 w13 w14 w15) 1161 g = sgX1_rows σ w0 w1 w2 w3 w4 w5 w6 w7 w8 g w10 w11 w12 w13 w14 w15 := (cm_aI_aL _ _ _ _ _).trans (congrArg (fun z => aL z 1152 w15) ((cm_aI_aL _ _ _ _ _).trans (congrArg (fun z => aL z 1150 w14) ((cm_aI_aL _ _ _ _ _).trans (congrArg (fun z => aL z 1141 w13) ((cm_aI_aL _ _ _ _ _).trans (congrArg (fun z => aL z 1140 w12) ((aI_comm _ (by decide) _ _).trans (congrArg (fun z => aI z 1165 w11) ((aI_comm _ (by decide) _ _).trans (congrArg (fun z => aI z 1162 w10) (aI_aI _ 1161 _ _))))))))))))
theorem sgX1_rows_aI1162 {σ : Sto} {w0 : Int32} {w1 : Int32} {w2 : Int32} {w3 : Int32} {w4 : Int32} {w5 : Int64} {w6 : Int64} {w7 : Nat → Int32} {w8 : Nat → Int32} {w9 : Nat → Int32} {w10 : Nat → Int32} {w11 : Nat → Int32} {w12 : Nat → Int64} {w13 : Nat → Int64} {w14 : Nat → Int64} {w15 : Nat → Int64} {g : Nat → Int32} : aI (sgX1_rows σ w0 w1 w2 w3 w4 w5 w6 w7 w8 w9 w10 w11 w12 w13 w14 w15) 1162 g = sgX1_rows σ w0 w1 w2 w3 w4 w5 w6 w7 w8 w9 g w11 w12 w13 w14 w15 := (cm_aI_aL _ _ _ _ _).trans (congrArg (fun z => aL z 1152 w15) ((cm_aI_aL _ _ _ _ _).trans (congrArg (fun z => aL z 1150 w14) ((cm_aI_aL _ _ _ _ _).trans (congrArg (fun z => aL z 1141 w13) ((cm_aI_aL _ _ _ _ _).trans (congrArg (fun z => aL z 1140 w12) ((aI_comm _ (by decide) _ _).trans (congrArg (fun z => aI z 1165 w11) (aI_aI _ 1162 _ _))))))))))
theorem sgX1_rows_aI1165 {σ : Sto} {w0 : Int32} {w1 : Int32} {w2 : Int32} {w3 : Int32} {w4 : Int32} {w5 : Int64} {w6 : Int64} {w7 : Nat → Int32} {w8 : Nat → Int32} {w9 : Nat → Int32} {w10 : Nat → Int32} {w11 : Nat → Int32} {w12 : Nat → Int64} {w13 : Nat → Int64} {w14 : Nat → Int64} {w15 : Nat → Int64} {g : Nat → Int32} : aI (sgX1_rows σ w0 w1 w2 w3 w4 w5 w6 w7 w8 w9 w10 w11 w12 w13 w14 w15) 1165 g = sgX1_rows σ w0 w1 w2 w3 w4 w5 w6 w7 w8 w9 w10 g w12 w13 w14 w15 := (cm_aI_aL _ _ _ _ _).trans (congrArg (fun z => aL z 1152 w15) ((cm_aI_aL _ _ _ _ _).trans (congrArg (fun z => aL z 1150 w14) ((cm_aI_aL _ _ _ _ _).trans (congrArg (fun z => aL z 1141 w13) ((cm_aI_aL _ _ _ _ _).trans (congrArg (fun z => aL z 1140 w12) (aI_aI _ 1165 _ _))))))))
theorem sgX1_rows_aL1140 {σ : Sto} {w0 : Int32} {w1 : Int32} {w2 : Int32} {w3 : Int32} {w4 : Int32} {w5 : Int64} {w6 : Int64} {w7 : Nat → Int32} {w8 : Nat → Int32} {w9 : Nat → Int32} {w10 : Nat → Int32} {w11 : Nat → Int32} {w12 : Nat → Int64} {w13 : Nat → Int64} {w14 : Nat → Int64} {w15 : Nat → Int64} {g : Nat → Int64} : aL (sgX1_rows σ w0 w1 w2 w3 w4 w5 w6 w7 w8 w9 w10 w11 w12 w13 w14 w15) 1140 g = sgX1_rows σ w0 w1 w2 w3 w4 w5 w6 w7 w8 w9 w10 w11 g w13 w14 w15 := (aL_comm _ (by decide) _ _).trans (congrArg (fun z => aL z 1152 w15) ((aL_comm _ (by decide) _ _).trans (congrArg (fun z => aL z 1150 w14) ((aL_comm _ (by decide) _ _).trans (congrArg (fun z => aL z 1141 w13) (aL_aL _ 1140 _ _))))))
theorem sgX1_rows_aL1141 {σ : Sto} {w0 : Int32} {w1 : Int32} {w2 : Int32} {w3 : Int32} {w4 : Int32} {w5 : Int64} {w6 : Int64} {w7 : Nat → Int32} {w8 : Nat → Int32} {w9 : Nat → Int32} {w10 : Nat → Int32} {w11 : Nat → Int32} {w12 : Nat → Int64} {w13 : Nat → Int64} {w14 : Nat → Int64} {w15 : Nat → Int64} {g : Nat → Int64} : aL (sgX1_rows σ w0 w1 w2 w3 w4 w5 w6 w7 w8 w9 w10 w11 w12 w13 w14 w15) 1141 g = sgX1_rows σ w0 w1 w2 w3 w4 w5 w6 w7 w8 w9 w10 w11 w12 g w14 w15 := (aL_comm _ (by decide) _ _).trans (congrArg (fun z => aL z 1152 w15) ((aL_comm _ (by decide) _ _).trans (congrArg (fun z => aL z 1150 w14) (aL_aL _ 1141 _ _))))
theorem sgX1_rows_aL1150 {σ : Sto} {w0 : Int32} {w1 : Int32} {w2 : Int32} {w3 : Int32} {w4 : Int32} {w5 : Int64} {w6 : Int64} {w7 : Nat → Int32} {w8 : Nat → Int32} {w9 : Nat → Int32} {w10 : Nat → Int32} {w11 : Nat → Int32} {w12 : Nat → Int64} {w13 : Nat → Int64} {w14 : Nat → Int64} {w15 : Nat → Int64} {g : Nat → Int64} : aL (sgX1_rows σ w0 w1 w2 w3 w4 w5 w6 w7 w8 w9 w10 w11 w12 w13 w14 w15) 1150 g = sgX1_rows σ w0 w1 w2 w3 w4 w5 w6 w7 w8 w9 w10 w11 w12 w13 g w15 := (aL_comm _ (by decide) _ _).trans (congrArg (fun z => aL z 1152 w15) (aL_aL _ 1150 _ _))
theorem sgX1_rows_aL1152 {σ : Sto} {w0 : Int32} {w1 : Int32} {w2 : Int32} {w3 : Int32} {w4 : Int32} {w5 : Int64} {w6 : Int64} {w7 : Nat → Int32} {w8 : Nat → Int32} {w9 : Nat → Int32} {w10 : Nat → Int32} {w11 : Nat → Int32} {w12 : Nat → Int64} {w13 : Nat → Int64} {w14 : Nat → Int64} {w15 : Nat → Int64} {g : Nat → Int64} : aL (sgX1_rows σ w0 w1 w2 w3 w4 w5 w6 w7 w8 w9 w10 w11 w12 w13 w14 w15) 1152 g = sgX1_rows σ w0 w1 w2 w3 w4 w5 w6 w7 w8 w9 w10 w11 w12 w13 w14 g := aL_aL _ 1152 _ _
theorem sgX1_rows_rzI1018 {σ : Sto} {w0 : Int32} {w1 : Int32} {w2 : Int32} {w3 : Int32} {w4 : Int32} {w5 : Int64} {w6 : Int64} {w7 : Nat → Int32} {w8 : Nat → Int32} {w9 : Nat → Int32} {w10 : Nat → Int32} {w11 : Nat → Int32} {w12 : Nat → Int64} {w13 : Nat → Int64} {w14 : Nat → Int64} {w15 : Nat → Int64} : (sgX1_rows σ w0 w1 w2 w3 w4 w5 w6 w7 w8 w9 w10 w11 w12 w13 w14 w15).1 1018 = w0 := rfl
theorem sgX1_rows_rzI1021 {σ : Sto} {w0 : Int32} {w1 : Int32} {w2 : Int32} {w3 : Int32} {w4 : Int32} {w5 : Int64} {w6 : Int64} {w7 : Nat → Int32} {w8 : Nat → Int32} {w9 : Nat → Int32} {w10 : Nat → Int32} {w11 : Nat → Int32} {w12 : Nat → Int64} {w13 : Nat → Int64} {w14 : Nat → Int64} {w15 : Nat → Int64} : (sgX1_rows σ w0 w1 w2 w3 w4 w5 w6 w7 w8 w9 w10 w11 w12 w13 w14 w15).1 1021 = w1 := rfl
theorem sgX1_rows_rzI1062 {σ : Sto} {w0 : Int32} {w1 : Int32} {w2 : Int32} {w3 : Int32} {w4 : Int32} {w5 : Int64} {w6 : Int64} {w7 : Nat → Int32} {w8 : Nat → Int32} {w9 : Nat → Int32} {w10 : Nat → Int32} {w11 : Nat → Int32} {w12 : Nat → Int64} {w13 : Nat → Int64} {w14 : Nat → Int64} {w15 : Nat → Int64} : (sgX1_rows σ w0 w1 w2 w3 w4 w5 w6 w7 w8 w9 w10 w11 w12 w13 w14 w15).1 1062 = w2 := rfl
theorem sgX1_rows_rzI1082 {σ : Sto} {w0 : Int32} {w1 : Int32} {w2 : Int32} {w3 : Int32} {w4 : Int32} {w5 : Int64} {w6 : Int64} {w7 : Nat → Int32} {w8 : Nat → Int32} {w9 : Nat → Int32} {w10 : Nat → Int32} {w11 : Nat → Int32} {w12 : Nat → Int64} {w13 : Nat → Int64} {w14 : Nat → Int64} {w15 : Nat → Int64} : (sgX1_rows σ w0 w1 w2 w3 w4 w5 w6 w7 w8 w9 w10 w11 w12 w13 w14 w15).1 1082 = w3 := rfl
theorem sgX1_rows_rzI1517 {σ : Sto} {w0 : Int32} {w1 : Int32} {w2 : Int32} {w3 : Int32} {w4 : Int32} {w5 : Int64} {w6 : Int64} {w7 : Nat → Int32} {w8 : Nat → Int32} {w9 : Nat → Int32} {w10 : Nat → Int32} {w11 : Nat → Int32} {w12 : Nat → Int64} {w13 : Nat → Int64} {w14 : Nat → Int64} {w15 : Nat → Int64} : (sgX1_rows σ w0 w1 w2 w3 w4 w5 w6 w7 w8 w9 w10 w11 w12 w13 w14 w15).1 1517 = w4 := rfl
theorem sgX1_rows_rzI2008 {σ : Sto} {w0 : Int32} {w1 : Int32} {w2 : Int32} {w3 : Int32} {w4 : Int32} {w5 : Int64} {w6 : Int64} {w7 : Nat → Int32} {w8 : Nat → Int32} {w9 : Nat → Int32} {w10 : Nat → Int32} {w11 : Nat → Int32} {w12 : Nat → Int64} {w13 : Nat → Int64} {w14 : Nat → Int64} {w15 : Nat → Int64} : (sgX1_rows σ w0 w1 w2 w3 w4 w5 w6 w7 w8 w9 w10 w11 w12 w13 w14 w15).1 2008 = σ.1 2008 := rfl
theorem sgX1_rows_rzI2009 {σ : Sto} {w0 : Int32} {w1 : Int32} {w2 : Int32} {w3 : Int32} {w4 : Int32} {w5 : Int64} {w6 : Int64} {w7 : Nat → Int32} {w8 : Nat → Int32} {w9 : Nat → Int32} {w10 : Nat → Int32} {w11 : Nat → Int32} {w12 : Nat → Int64} {w13 : Nat → Int64} {w14 : Nat → Int64} {w15 : Nat → Int64} : (sgX1_rows σ w0 w1 w2 w3 w4 w5 w6 w7 w8 w9 w10 w11 w12 w13 w14 w15).1 2009 = σ.1 2009 := rfl
theorem sgX1_rows_rzI2012 {σ : Sto} {w0 : Int32} {w1 : Int32} {w2 : Int32} {w3 : Int32} {w4 : Int32} {w5 : Int64} {w6 : Int64} {w7 : Nat → Int32} {w8 : Nat → Int32} {w9 : Nat → Int32} {w10 : Nat → Int32} {w11 : Nat → Int32} {w12 : Nat → Int64} {w13 : Nat → Int64} {w14 : Nat → Int64} {w15 : Nat → Int64} : (sgX1_rows σ w0 w1 w2 w3 w4 w5 w6 w7 w8 w9 w10 w11 w12 w13 w14 w15).1 2012 = σ.1 2012 := rfl
theorem sgX1_rows_rzI2013 {σ : Sto} {w0 : Int32} {w1 : Int32} {w2 : Int32} {w3 : Int32} {w4 : Int32} {w5 : Int64} {w6 : Int64} {w7 : Nat → Int32} {w8 : Nat → Int32} {w9 : Nat → Int32} {w10 : Nat → Int32} {w11 : Nat → Int32} {w12 : Nat → Int64} {w13 : Nat → Int64} {w14 : Nat → Int64} {w15 : Nat → Int64} : (sgX1_rows σ w0 w1 w2 w3 w4 w5 w6 w7 w8 w9 w10 w11 w12 w13 w14 w15).1 2013 = σ.1 2013 := rfl
theorem sgX1_rows_rzI2027 {σ : Sto} {w0 : Int32} {w1 : Int32} {w2 : Int32} {w3 : Int32} {w4 : Int32} {w5 : Int64} {w6 : Int64} {w7 : Nat → Int32} {w8 : Nat → Int32} {w9 : Nat → Int32} {w10 : Nat → Int32} {w11 : Nat → Int32} {w12 : Nat → Int64} {w13 : Nat → Int64} {w14 : Nat → Int64} {w15 : Nat → Int64} : (sgX1_rows σ w0 w1 w2 w3 w4 w5 w6 w7 w8 w9 w10 w11 w12 w13 w14 w15).1 2027 = σ.1 2027 := rfl
theorem sgX1_rows_rzI2032 {σ : Sto} {w0 : Int32} {w1 : Int32} {w2 : Int32} {w3 : Int32} {w4 : Int32} {w5 : Int64} {w6 : Int64} {w7 : Nat → Int32} {w8 : Nat → Int32} {w9 : Nat → Int32} {w10 : Nat → Int32} {w11 : Nat → Int32} {w12 : Nat → Int64} {w13 : Nat → Int64} {w14 : Nat → Int64} {w15 : Nat → Int64} : (sgX1_rows σ w0 w1 w2 w3 w4 w5 w6 w7 w8 w9 w10 w11 w12 w13 w14 w15).1 2032 = σ.1 2032 := rfl
theorem sgX1_rows_rzL1024 {σ : Sto} {w0 : Int32} {w1 : Int32} {w2 : Int32} {w3 : Int32} {w4 : Int32} {w5 : Int64} {w6 : Int64} {w7 : Nat → Int32} {w8 : Nat → Int32} {w9 : Nat → Int32} {w10 : Nat → Int32} {w11 : Nat → Int32} {w12 : Nat → Int64} {w13 : Nat → Int64} {w14 : Nat → Int64} {w15 : Nat → Int64} : (sgX1_rows σ w0 w1 w2 w3 w4 w5 w6 w7 w8 w9 w10 w11 w12 w13 w14 w15).2.1 1024 = w5 := rfl
theorem sgX1_rows_rzL1052 {σ : Sto} {w0 : Int32} {w1 : Int32} {w2 : Int32} {w3 : Int32} {w4 : Int32} {w5 : Int64} {w6 : Int64} {w7 : Nat → Int32} {w8 : Nat → Int32} {w9 : Nat → Int32} {w10 : Nat → Int32} {w11 : Nat → Int32} {w12 : Nat → Int64} {w13 : Nat → Int64} {w14 : Nat → Int64} {w15 : Nat → Int64} : (sgX1_rows σ w0 w1 w2 w3 w4 w5 w6 w7 w8 w9 w10 w11 w12 w13 w14 w15).2.1 1052 = w6 := rfl
theorem sgX1_rows_rzL1061 {σ : Sto} {w0 : Int32} {w1 : Int32} {w2 : Int32} {w3 : Int32} {w4 : Int32} {w5 : Int64} {w6 : Int64} {w7 : Nat → Int32} {w8 : Nat → Int32} {w9 : Nat → Int32} {w10 : Nat → Int32} {w11 : Nat → Int32} {w12 : Nat → Int64} {w13 : Nat → Int64} {w14 : Nat → Int64} {w15 : Nat → Int64} : (sgX1_rows σ w0 w1 w2 w3 w4 w5 w6 w7 w8 w9 w10 w11 w12 w13 w14 w15).2.1 1061 = σ.2.1 1061 := rfl
theorem sgX1_rows_rzL1081 {σ : Sto} {w0 : Int32} {w1 : Int32} {w2 : Int32} {w3 : Int32} {w4 : Int32} {w5 : Int64} {w6 : Int64} {w7 : Nat → Int32} {w8 : Nat → Int32} {w9 : Nat → Int32} {w10 : Nat → Int32} {w11 : Nat → Int32} {w12 : Nat → Int64} {w13 : Nat → Int64} {w14 : Nat → Int64} {w15 : Nat → Int64} : (sgX1_rows σ w0 w1 w2 w3 w4 w5 w6 w7 w8 w9 w10 w11 w12 w13 w14 w15).2.1 1081 = σ.2.1 1081 := rfl
theorem sgX1_rows_raI1108 {σ : Sto} {w0 : Int32} {w1 : Int32} {w2 : Int32} {w3 : Int32} {w4 : Int32} {w5 : Int64} {w6 : Int64} {w7 : Nat → Int32} {w8 : Nat → Int32} {w9 : Nat → Int32} {w10 : Nat → Int32} {w11 : Nat → Int32} {w12 : Nat → Int64} {w13 : Nat → Int64} {w14 : Nat → Int64} {w15 : Nat → Int64} : (sgX1_rows σ w0 w1 w2 w3 w4 w5 w6 w7 w8 w9 w10 w11 w12 w13 w14 w15).2.2.1 1108 = w7 := rfl
theorem sgX1_rows_raI1123 {σ : Sto} {w0 : Int32} {w1 : Int32} {w2 : Int32} {w3 : Int32} {w4 : Int32} {w5 : Int64} {w6 : Int64} {w7 : Nat → Int32} {w8 : Nat → Int32} {w9 : Nat → Int32} {w10 : Nat → Int32} {w11 : Nat → Int32} {w12 : Nat → Int64} {w13 : Nat → Int64} {w14 : Nat → Int64} {w15 : Nat → Int64} : (sgX1_rows σ w0 w1 w2 w3 w4 w5 w6 w7 w8 w9 w10 w11 w12 w13 w14 w15).2.2.1 1123 = w8 := rfl
theorem sgX1_rows_raI1161 {σ : Sto} {w0 : Int32} {w1 : Int32} {w2 : Int32} {w3 : Int32} {w4 : Int32} {w5 : Int64} {w6 : Int64} {w7 : Nat → Int32} {w8 : Nat → Int32} {w9 : Nat → Int32} {w10 : Nat → Int32} {w11 : Nat → Int32} {w12 : Nat → Int64} {w13 : Nat → Int64} {w14 : Nat → Int64} {w15 : Nat → Int64} : (sgX1_rows σ w0 w1 w2 w3 w4 w5 w6 w7 w8 w9 w10 w11 w12 w13 w14 w15).2.2.1 1161 = w9 := rfl
theorem sgX1_rows_raI1162 {σ : Sto} {w0 : Int32} {w1 : Int32} {w2 : Int32} {w3 : Int32} {w4 : Int32} {w5 : Int64} {w6 : Int64} {w7 : Nat → Int32} {w8 : Nat → Int32} {w9 : Nat → Int32} {w10 : Nat → Int32} {w11 : Nat → Int32} {w12 : Nat → Int64} {w13 : Nat → Int64} {w14 : Nat → Int64} {w15 : Nat → Int64} : (sgX1_rows σ w0 w1 w2 w3 w4 w5 w6 w7 w8 w9 w10 w11 w12 w13 w14 w15).2.2.1 1162 = w10 := rfl
theorem sgX1_rows_raI1165 {σ : Sto} {w0 : Int32} {w1 : Int32} {w2 : Int32} {w3 : Int32} {w4 : Int32} {w5 : Int64} {w6 : Int64} {w7 : Nat → Int32} {w8 : Nat → Int32} {w9 : Nat → Int32} {w10 : Nat → Int32} {w11 : Nat → Int32} {w12 : Nat → Int64} {w13 : Nat → Int64} {w14 : Nat → Int64} {w15 : Nat → Int64} : (sgX1_rows σ w0 w1 w2 w3 w4 w5 w6 w7 w8 w9 w10 w11 w12 w13 w14 w15).2.2.1 1165 = w11 := rfl
theorem sgX1_rows_raI1170 {σ : Sto} {w0 : Int32} {w1 : Int32} {w2 : Int32} {w3 : Int32} {w4 : Int32} {w5 : Int64} {w6 : Int64} {w7 : Nat → Int32} {w8 : Nat → Int32} {w9 : Nat → Int32} {w10 : Nat → Int32} {w11 : Nat → Int32} {w12 : Nat → Int64} {w13 : Nat → Int64} {w14 : Nat → Int64} {w15 : Nat → Int64} : (sgX1_rows σ w0 w1 w2 w3 w4 w5 w6 w7 w8 w9 w10 w11 w12 w13 w14 w15).2.2.1 1170 = σ.2.2.1 1170 := rfl
theorem sgX1_rows_raI2036 {σ : Sto} {w0 : Int32} {w1 : Int32} {w2 : Int32} {w3 : Int32} {w4 : Int32} {w5 : Int64} {w6 : Int64} {w7 : Nat → Int32} {w8 : Nat → Int32} {w9 : Nat → Int32} {w10 : Nat → Int32} {w11 : Nat → Int32} {w12 : Nat → Int64} {w13 : Nat → Int64} {w14 : Nat → Int64} {w15 : Nat → Int64} : (sgX1_rows σ w0 w1 w2 w3 w4 w5 w6 w7 w8 w9 w10 w11 w12 w13 w14 w15).2.2.1 2036 = σ.2.2.1 2036 := rfl
theorem sgX1_rows_raI2037 {σ : Sto} {w0 : Int32} {w1 : Int32} {w2 : Int32} {w3 : Int32} {w4 : Int32} {w5 : Int64} {w6 : Int64} {w7 : Nat → Int32} {w8 : Nat → Int32} {w9 : Nat → Int32} {w10 : Nat → Int32} {w11 : Nat → Int32} {w12 : Nat → Int64} {w13 : Nat → Int64} {w14 : Nat → Int64} {w15 : Nat → Int64} : (sgX1_rows σ w0 w1 w2 w3 w4 w5 w6 w7 w8 w9 w10 w11 w12 w13 w14 w15).2.2.1 2037 = σ.2.2.1 2037 := rfl
theorem sgX1_rows_raI2042 {σ : Sto} {w0 : Int32} {w1 : Int32} {w2 : Int32} {w3 : Int32} {w4 : Int32} {w5 : Int64} {w6 : Int64} {w7 : Nat → Int32} {w8 : Nat → Int32} {w9 : Nat → Int32} {w10 : Nat → Int32} {w11 : Nat → Int32} {w12 : Nat → Int64} {w13 : Nat → Int64} {w14 : Nat → Int64} {w15 : Nat → Int64} : (sgX1_rows σ w0 w1 w2 w3 w4 w5 w6 w7 w8 w9 w10 w11 w12 w13 w14 w15).2.2.1 2042 = σ.2.2.1 2042 := rfl
theorem sgX1_rows_raI2043 {σ : Sto} {w0 : Int32} {w1 : Int32} {w2 : Int32} {w3 : Int32} {w4 : Int32} {w5 : Int64} {w6 : Int64} {w7 : Nat → Int32} {w8 : Nat → Int32} {w9 : Nat → Int32} {w10 : Nat → Int32} {w11 : Nat → Int32} {w12 : Nat → Int64} {w13 : Nat → Int64} {w14 : Nat → Int64} {w15 : Nat → Int64} : (sgX1_rows σ w0 w1 w2 w3 w4 w5 w6 w7 w8 w9 w10 w11 w12 w13 w14 w15).2.2.1 2043 = σ.2.2.1 2043 := rfl
theorem sgX1_rows_raL1140 {σ : Sto} {w0 : Int32} {w1 : Int32} {w2 : Int32} {w3 : Int32} {w4 : Int32} {w5 : Int64} {w6 : Int64} {w7 : Nat → Int32} {w8 : Nat → Int32} {w9 : Nat → Int32} {w10 : Nat → Int32} {w11 : Nat → Int32} {w12 : Nat → Int64} {w13 : Nat → Int64} {w14 : Nat → Int64} {w15 : Nat → Int64} : (sgX1_rows σ w0 w1 w2 w3 w4 w5 w6 w7 w8 w9 w10 w11 w12 w13 w14 w15).2.2.2.1 1140 = w12 := rfl
theorem sgX1_rows_raL1141 {σ : Sto} {w0 : Int32} {w1 : Int32} {w2 : Int32} {w3 : Int32} {w4 : Int32} {w5 : Int64} {w6 : Int64} {w7 : Nat → Int32} {w8 : Nat → Int32} {w9 : Nat → Int32} {w10 : Nat → Int32} {w11 : Nat → Int32} {w12 : Nat → Int64} {w13 : Nat → Int64} {w14 : Nat → Int64} {w15 : Nat → Int64} : (sgX1_rows σ w0 w1 w2 w3 w4 w5 w6 w7 w8 w9 w10 w11 w12 w13 w14 w15).2.2.2.1 1141 = w13 := rfl
theorem sgX1_rows_raL1150 {σ : Sto} {w0 : Int32} {w1 : Int32} {w2 : Int32} {w3 : Int32} {w4 : Int32} {w5 : Int64} {w6 : Int64} {w7 : Nat → Int32} {w8 : Nat → Int32} {w9 : Nat → Int32} {w10 : Nat → Int32} {w11 : Nat → Int32} {w12 : Nat → Int64} {w13 : Nat → Int64} {w14 : Nat → Int64} {w15 : Nat → Int64} : (sgX1_rows σ w0 w1 w2 w3 w4 w5 w6 w7 w8 w9 w10 w11 w12 w13 w14 w15).2.2.2.1 1150 = w14 := rfl
theorem sgX1_rows_raL1152 {σ : Sto} {w0 : Int32} {w1 : Int32} {w2 : Int32} {w3 : Int32} {w4 : Int32} {w5 : Int64} {w6 : Int64} {w7 : Nat → Int32} {w8 : Nat → Int32} {w9 : Nat → Int32} {w10 : Nat → Int32} {w11 : Nat → Int32} {w12 : Nat → Int64} {w13 : Nat → Int64} {w14 : Nat → Int64} {w15 : Nat → Int64} : (sgX1_rows σ w0 w1 w2 w3 w4 w5 w6 w7 w8 w9 w10 w11 w12 w13 w14 w15).2.2.2.1 1152 = w15 := rfl
theorem sgX1_rows_rpR2 {σ : Sto} {w0 : Int32} {w1 : Int32} {w2 : Int32} {w3 : Int32} {w4 : Int32} {w5 : Int64} {w6 : Int64} {w7 : Nat → Int32} {w8 : Nat → Int32} {w9 : Nat → Int32} {w10 : Nat → Int32} {w11 : Nat → Int32} {w12 : Nat → Int64} {w13 : Nat → Int64} {w14 : Nat → Int64} {w15 : Nat → Int64} : (fun k => (sgX1_rows σ w0 w1 w2 w3 w4 w5 w6 w7 w8 w9 w10 w11 w12 w13 w14 w15).1 (6000 + 16 * k + 2)) = (fun k => σ.1 (6000 + 16 * k + 2)) := by
  funext k
  unfold sgX1_rows
  dsimp only [zI, zL, aI, aL]
  repeat rw [if_neg (by omega)]
theorem sgX1_rows_rpR3 {σ : Sto} {w0 : Int32} {w1 : Int32} {w2 : Int32} {w3 : Int32} {w4 : Int32} {w5 : Int64} {w6 : Int64} {w7 : Nat → Int32} {w8 : Nat → Int32} {w9 : Nat → Int32} {w10 : Nat → Int32} {w11 : Nat → Int32} {w12 : Nat → Int64} {w13 : Nat → Int64} {w14 : Nat → Int64} {w15 : Nat → Int64} : (fun k => (sgX1_rows σ w0 w1 w2 w3 w4 w5 w6 w7 w8 w9 w10 w11 w12 w13 w14 w15).1 (6000 + 16 * k + 3)) = (fun k => σ.1 (6000 + 16 * k + 3)) := by
  funext k
  unfold sgX1_rows
  dsimp only [zI, zL, aI, aL]
  repeat rw [if_neg (by omega)]
theorem sgX1_rows_rpR4 {σ : Sto} {w0 : Int32} {w1 : Int32} {w2 : Int32} {w3 : Int32} {w4 : Int32} {w5 : Int64} {w6 : Int64} {w7 : Nat → Int32} {w8 : Nat → Int32} {w9 : Nat → Int32} {w10 : Nat → Int32} {w11 : Nat → Int32} {w12 : Nat → Int64} {w13 : Nat → Int64} {w14 : Nat → Int64} {w15 : Nat → Int64} : (fun k => (sgX1_rows σ w0 w1 w2 w3 w4 w5 w6 w7 w8 w9 w10 w11 w12 w13 w14 w15).1 (6000 + 16 * k + 4)) = (fun k => σ.1 (6000 + 16 * k + 4)) := by
  funext k
  unfold sgX1_rows
  dsimp only [zI, zL, aI, aL]
  repeat rw [if_neg (by omega)]
theorem sgX1_rows_rpR5 {σ : Sto} {w0 : Int32} {w1 : Int32} {w2 : Int32} {w3 : Int32} {w4 : Int32} {w5 : Int64} {w6 : Int64} {w7 : Nat → Int32} {w8 : Nat → Int32} {w9 : Nat → Int32} {w10 : Nat → Int32} {w11 : Nat → Int32} {w12 : Nat → Int64} {w13 : Nat → Int64} {w14 : Nat → Int64} {w15 : Nat → Int64} : (fun k => (sgX1_rows σ w0 w1 w2 w3 w4 w5 w6 w7 w8 w9 w10 w11 w12 w13 w14 w15).1 (6000 + 16 * k + 5)) = (fun k => σ.1 (6000 + 16 * k + 5)) := by
  funext k
  unfold sgX1_rows
  dsimp only [zI, zL, aI, aL]
  repeat rw [if_neg (by omega)]
theorem sgX1_rows_rpR6 {σ : Sto} {w0 : Int32} {w1 : Int32} {w2 : Int32} {w3 : Int32} {w4 : Int32} {w5 : Int64} {w6 : Int64} {w7 : Nat → Int32} {w8 : Nat → Int32} {w9 : Nat → Int32} {w10 : Nat → Int32} {w11 : Nat → Int32} {w12 : Nat → Int64} {w13 : Nat → Int64} {w14 : Nat → Int64} {w15 : Nat → Int64} : (fun k => (sgX1_rows σ w0 w1 w2 w3 w4 w5 w6 w7 w8 w9 w10 w11 w12 w13 w14 w15).1 (6000 + 16 * k + 6)) = (fun k => σ.1 (6000 + 16 * k + 6)) := by
  funext k
  unfold sgX1_rows
  dsimp only [zI, zL, aI, aL]
  repeat rw [if_neg (by omega)]
theorem sgX1_rows_rpW0 {σ : Sto} {w0 : Int32} {w1 : Int32} {w2 : Int32} {w3 : Int32} {w4 : Int32} {w5 : Int64} {w6 : Int64} {w7 : Nat → Int32} {w8 : Nat → Int32} {w9 : Nat → Int32} {w10 : Nat → Int32} {w11 : Nat → Int32} {w12 : Nat → Int64} {w13 : Nat → Int64} {w14 : Nat → Int64} {w15 : Nat → Int64} : (fun k => (sgX1_rows σ w0 w1 w2 w3 w4 w5 w6 w7 w8 w9 w10 w11 w12 w13 w14 w15).1 (8000 + 16 * k + 0)) = (fun k => σ.1 (8000 + 16 * k + 0)) := by
  funext k
  unfold sgX1_rows
  dsimp only [zI, zL, aI, aL]
  repeat rw [if_neg (by omega)]
theorem sgX1_rows_rpW1 {σ : Sto} {w0 : Int32} {w1 : Int32} {w2 : Int32} {w3 : Int32} {w4 : Int32} {w5 : Int64} {w6 : Int64} {w7 : Nat → Int32} {w8 : Nat → Int32} {w9 : Nat → Int32} {w10 : Nat → Int32} {w11 : Nat → Int32} {w12 : Nat → Int64} {w13 : Nat → Int64} {w14 : Nat → Int64} {w15 : Nat → Int64} : (fun k => (sgX1_rows σ w0 w1 w2 w3 w4 w5 w6 w7 w8 w9 w10 w11 w12 w13 w14 w15).1 (8000 + 16 * k + 1)) = (fun k => σ.1 (8000 + 16 * k + 1)) := by
  funext k
  unfold sgX1_rows
  dsimp only [zI, zL, aI, aL]
  repeat rw [if_neg (by omega)]
theorem sgX1_rows_rpW2 {σ : Sto} {w0 : Int32} {w1 : Int32} {w2 : Int32} {w3 : Int32} {w4 : Int32} {w5 : Int64} {w6 : Int64} {w7 : Nat → Int32} {w8 : Nat → Int32} {w9 : Nat → Int32} {w10 : Nat → Int32} {w11 : Nat → Int32} {w12 : Nat → Int64} {w13 : Nat → Int64} {w14 : Nat → Int64} {w15 : Nat → Int64} : (fun k => (sgX1_rows σ w0 w1 w2 w3 w4 w5 w6 w7 w8 w9 w10 w11 w12 w13 w14 w15).1 (8000 + 16 * k + 2)) = (fun k => σ.1 (8000 + 16 * k + 2)) := by
  funext k
  unfold sgX1_rows
  dsimp only [zI, zL, aI, aL]
  repeat rw [if_neg (by omega)]
theorem sgX1_rows_rgG0 {σ : Sto} {w0 : Int32} {w1 : Int32} {w2 : Int32} {w3 : Int32} {w4 : Int32} {w5 : Int64} {w6 : Int64} {w7 : Nat → Int32} {w8 : Nat → Int32} {w9 : Nat → Int32} {w10 : Nat → Int32} {w11 : Nat → Int32} {w12 : Nat → Int64} {w13 : Nat → Int64} {w14 : Nat → Int64} {w15 : Nat → Int64} : (fun k => (sgX1_rows σ w0 w1 w2 w3 w4 w5 w6 w7 w8 w9 w10 w11 w12 w13 w14 w15).2.2.1 (4000 + 16 * k)) = (fun k => σ.2.2.1 (4000 + 16 * k)) := by
  funext k
  unfold sgX1_rows
  dsimp only [zI, zL, aI, aL]
  repeat rw [if_neg (by omega)]
abbrev rmX1_rows : Room := { frames := 49, cells := 0, slots := 0, locals := 1337 }
set_option maxHeartbeats 4000000 in
theorem wkX1_rows {x1 : Int32} {r_ : Int64} {w_zI1018 : Int32} {w_zI1021 : Int32} {w_zI1062 : Int32} {w_zI1082 : Int32} {w_zI1517 : Int32} {w_zL1024 : Int64} {w_zL1052 : Int64} {w_aI1108 : Nat → Int32} {w_aI1123 : Nat → Int32} {w_aI1161 : Nat → Int32} {w_aI1162 : Nat → Int32} {w_aI1165 : Nat → Int32} {w_aL1140 : Nat → Int64} {w_aL1141 : Nat → Int64} {w_aL1150 : Nat → Int64} {w_aL1152 : Nat → Int64} (E : EN p s m args meth c0 RX1 cX1_rows 2 (Option.some Jvm.ClassFile.FieldType.long)) (hX : KX D G ad A s s.heap) (hD : XD dsc nr nw nu) (hA : ∀ q, PA dsc ad s.heap.size q → A q) (hf : xo_X1_rows (σ.1 1018) (σ.1 1021) (σ.1 1062) (σ.1 1082) (σ.1 1517) (σ.1 2008) (σ.1 2009) (σ.1 2012) (σ.1 2013) (σ.1 2027) (σ.1 2032) (σ.2.1 1024) (σ.2.1 1052) (σ.2.1 1061) (σ.2.1 1081) (σ.2.2.1 1108) (σ.2.2.1 1123) (σ.2.2.1 1161) (σ.2.2.1 1162) (σ.2.2.1 1165) (σ.2.2.1 1170) (σ.2.2.1 2036) (σ.2.2.1 2037) (σ.2.2.1 2042) (σ.2.2.1 2043) (σ.2.2.2.1 1140) (σ.2.2.2.1 1141) (σ.2.2.2.1 1150) (σ.2.2.2.1 1152) nr nw (fun k => σ.1 (6000 + 16 * k + 2)) (fun k => σ.1 (6000 + 16 * k + 3)) (fun k => σ.1 (6000 + 16 * k + 4)) (fun k => σ.1 (6000 + 16 * k + 5)) (fun k => σ.1 (6000 + 16 * k + 6)) (fun k => σ.1 (8000 + 16 * k + 0)) (fun k => σ.1 (8000 + 16 * k + 1)) (fun k => σ.1 (8000 + 16 * k + 2)) (fun k => σ.2.2.1 (4000 + 16 * k)) x1 = some (r_, w_zI1018, w_zI1021, w_zI1062, w_zI1082, w_zI1517, w_zL1024, w_zL1052, w_aI1108, w_aI1123, w_aI1161, w_aI1162, w_aI1165, w_aL1140, w_aL1141, w_aL1150, w_aL1152)) (hQ : Q = MQ below (va_G1 (some (.long r_)) (fun t => PIC D clsA G dsc ad (sgX1_rows σ w_zI1018 w_zI1021 w_zI1062 w_zI1082 w_zI1517 w_zL1024 w_zL1052 w_aI1108 w_aI1123 w_aI1161 w_aI1162 w_aI1165 w_aL1140 w_aL1141 w_aL1150 w_aL1152) t.heap) A) args s 0 0 A) (hP : PIC D clsA G dsc ad σ H) (hS : va_S A s.heap H locs) (hl : lv_has ls 2 [(0, .ref (ad 1000)), (1, .int x1)]) : W p l e rmX1_rows s m args below meth c0 H locs 0 0 Q (F0 m 0 ls []) := by
  obtain ⟨⟨hx, hb, hml, hown, hts⟩, hr, hlk⟩ := id E
  have hP := hP.to (sgX1_rows_self σ).symm
  unfold xo_X1_rows at hf
  refine lv_iload_n hx hb dX1_rows_0 rfl (lv_at hl 1 rfl) ?_
  refine lv_iconst hx hb dX1_rows_1 ic_0 ?_
  refine lv_bipush hx hb dX1_rows_2 bp_6 ?_
  obtain ⟨v1, u2, hf⟩ := bdP hf
  refine cx_X1_143_X1_in E hX hD hP hS hA (kxX1_in l D G hD u2) ⟨rfl, rfl⟩ ⟨Nat.le_of_ble_eq_true rfl, Nat.le_of_ble_eq_true rfl⟩ ⟨Nat.zero_le _, Nat.zero_le _⟩ hl.1 (Nat.le_of_ble_eq_true rfl) dX1_rows_4 (fun H locs hP hS => ?_)
  have J20 : xo_X1_rows_J20 (σ.1 1018) (σ.1 1021) (σ.1 1062) (σ.1 1082) (σ.1 1517) (σ.2.1 1024) (σ.2.1 1052) (σ.2.2.1 1108) (σ.2.2.1 1123) (σ.2.2.1 1161) (σ.2.2.1 1162) (σ.2.2.1 1165) (σ.2.2.2.1 1140) (σ.2.2.2.1 1141) (σ.2.2.2.1 1150) (σ.2.2.2.1 1152) = some (r_, w_zI1018, w_zI1021, w_zI1062, w_zI1082, w_zI1517, w_zL1024, w_zL1052, w_aI1108, w_aI1123, w_aI1161, w_aI1162, w_aI1165, w_aL1140, w_aL1141, w_aL1150, w_aL1152) → ∀ (H : Heap) (locs : List Loc), PIC D clsA G dsc ad (sgX1_rows σ (σ.1 1018) (σ.1 1021) (σ.1 1062) (σ.1 1082) (σ.1 1517) (σ.2.1 1024) (σ.2.1 1052) (σ.2.2.1 1108) (σ.2.2.1 1123) (σ.2.2.1 1161) (σ.2.2.1 1162) (σ.2.2.1 1165) (σ.2.2.2.1 1140) (σ.2.2.2.1 1141) (σ.2.2.2.1 1150) (σ.2.2.2.1 1152)) H → va_S A s.heap H locs → ∀ (ls : Array Slot), lv_has ls 2 [] → W p l e rmX1_rows s m args below meth c0 H locs 0 0 Q (F0 m 20 ls []) := by
    intro  hf H locs hP hS ls hl
    unfold xo_X1_rows_J20 at hf
    refine lv_ldc2 hx hb hown (hts _ q996) dX1_rows_20 ?_
    cases hf
    rw [hQ]; exact g_lret hx hb hr hlk hP hS dX1_rows_23
  refine lv_if_eq (tgt := 20) hx hb dX1_rows_7 (by decide) (fun c3 => ?_) (fun c3 => ?_)
  · have hf := ifT c3 hf
    exact J20  hf H locs hP hS ls (lv_sub hl [] rfl)
  · have hf := ifF c3 hf
    refine lv_aload_n hx hb dX1_rows_10 rfl (lv_at hl 0 rfl) ?_
    refine gx_X1_33_1000 E hX hD hP dX1_rows_11 ?_
    obtain ⟨v4, u5, hf⟩ := bdP hf
    refine cx_X1_231_X3_isWhole E hX hD hP hS hA (kxX3_isWhole l D G hD sgX1_rows_rzI2012 sgX1_rows_rzI2013 u5) ⟨rfl, rfl⟩ ⟨Nat.le_of_ble_eq_true rfl, Nat.le_of_ble_eq_true rfl⟩ ⟨Nat.zero_le _, Nat.zero_le _⟩ hl.1 (Nat.le_of_ble_eq_true rfl) dX1_rows_14 (fun H locs hP hS => ?_)
    refine lv_if_ne (tgt := 24) hx hb dX1_rows_17 (by decide) (fun c6 => ?_) (fun c6 => ?_)
    · have hf := ifF c6 hf
      refine lv_aload_n hx hb dX1_rows_24 rfl (lv_at hl 0 rfl) ?_
      obtain ⟨⟨z7, z8, z9, z10, a11, a12, a13, a14, a15, a16⟩, u17, hf⟩ := bdP hf
      dsimp only at hf
      refine cx_X1_276_X1_lay E hX hD hP hS hA (kxX1_lay l D G hD sgX1_rows_rzI1018 sgX1_rows_rzI1062 sgX1_rows_rzI1082 sgX1_rows_rzI2008 sgX1_rows_rzI2009 sgX1_rows_rzI2012 sgX1_rows_rzI2013 sgX1_rows_rzI2027 sgX1_rows_rzI2032 sgX1_rows_rzL1052 sgX1_rows_rzL1061 sgX1_rows_rzL1081 sgX1_rows_raI1108 sgX1_rows_raI1162 sgX1_rows_raI1170 sgX1_rows_raI2036 sgX1_rows_raI2037 sgX1_rows_raI2042 sgX1_rows_raI2043 sgX1_rows_raL1140 sgX1_rows_raL1141 sgX1_rows_raL1150 sgX1_rows_raL1152 rfl rfl sgX1_rows_rpR2 sgX1_rows_rpR3 sgX1_rows_rpR4 sgX1_rows_rpR5 sgX1_rows_rpR6 sgX1_rows_rpW0 sgX1_rows_rpW1 sgX1_rows_rpW2 sgX1_rows_rgG0 u17) ⟨rfl, rfl⟩ ⟨Nat.le_of_ble_eq_true rfl, Nat.le_of_ble_eq_true rfl⟩ ⟨Nat.zero_le _, Nat.zero_le _⟩ hl.1 (Nat.le_of_ble_eq_true rfl) dX1_rows_25 (fun H locs hP hS => ?_)
      rw [sgX1_rows_zI1018, sgX1_rows_zI1062, sgX1_rows_zI1082, sgX1_rows_zL1052, sgX1_rows_aI1108, sgX1_rows_aI1162, sgX1_rows_aL1140, sgX1_rows_aL1141, sgX1_rows_aL1150, sgX1_rows_aL1152] at hP
      refine lv_aload_n hx hb dX1_rows_28 rfl (lv_at hl 0 rfl) ?_
      refine gx_X1_178_1000 (v := (σ.1 1021)) E hX hD hP sgX1_rows_rzI1021 dX1_rows_29 ?_
      have J41 : ∀ (z18 : Int32) (z19 : Int32) (z20 : Int64) (a21 : Nat → Int32) (a22 : Nat → Int32) (a23 : Nat → Int32), xo_X1_rows_J41 (σ.1 2027) x1 z7 z8 z9 z10 a11 a12 a13 a14 a15 a16 z18 z19 z20 a21 a22 a23 = some (r_, w_zI1018, w_zI1021, w_zI1062, w_zI1082, w_zI1517, w_zL1024, w_zL1052, w_aI1108, w_aI1123, w_aI1161, w_aI1162, w_aI1165, w_aL1140, w_aL1141, w_aL1150, w_aL1152) → ∀ (H : Heap) (locs : List Loc), PIC D clsA G dsc ad (sgX1_rows σ z7 z18 z8 z9 z19 z20 z10 a11 a21 a22 a12 a23 a13 a14 a15 a16) H → va_S A s.heap H locs → ∀ (ls : Array Slot), lv_has ls 2 [(0, .ref (ad 1000)), (1, .int x1)] → W p l e rmX1_rows s m args below meth c0 H locs 0 0 Q (F0 m 41 ls []) := by
        intro z18 z19 z20 a21 a22 a23 hf H locs hP hS ls hl
        unfold xo_X1_rows_J41 at hf
        refine lv_iload_n hx hb dX1_rows_41 rfl (lv_at hl 1 rfl) ?_
        refine lv_if_ne (tgt := 52) hx hb dX1_rows_42 (by decide) (fun c24 => ?_) (fun c24 => ?_)
        · have hf := ifF c24 hf
          refine lv_iload_n hx hb dX1_rows_52 rfl (lv_at hl 1 rfl) ?_
          refine lv_aload_n hx hb dX1_rows_53 rfl (lv_at hl 0 rfl) ?_
          refine gx_X1_33_1000 E hX hD hP dX1_rows_54 ?_
          refine gx_X1_246_2000 E hX hD hP dX1_rows_57 ?_
          obtain ⟨v25, u26, hf⟩ := bdP hf
          refine cx_X1_190_J2_size_Ld E hX hD hP hS hA (kxJ2_size_Ld l D G hD sgX1_rows_rzI2027 u26) ⟨rfl, rfl⟩ ⟨Nat.le_of_ble_eq_true rfl, Nat.le_of_ble_eq_true rfl⟩ ⟨Nat.zero_le _, Nat.zero_le _⟩ hl.1 (Nat.le_of_ble_eq_true rfl) dX1_rows_60 (fun H locs hP hS => ?_)
          refine lv_icmp_gt (tgt := 78) hx hb dX1_rows_63 (by decide) (fun c27 => ?_) (fun c27 => ?_)
          · have hf := ifT c27 hf
            refine lv_ldc2 hx hb hown (hts _ q996) dX1_rows_78 ?_
            cases hf
            rw [hQ]; exact g_lret hx hb hr hlk hP hS dX1_rows_81
          · have hf := ifF c27 hf
            refine lv_aload_n hx hb dX1_rows_66 rfl (lv_at hl 0 rfl) ?_
            refine gx_X1_117_1000 E hX hD hP dX1_rows_67 ?_
            refine lv_iload_n hx hb dX1_rows_70 rfl (lv_at hl 1 rfl) ?_
            refine lv_iconst hx hb dX1_rows_71 ic_1 ?_
            refine lv_isub hx hb dX1_rows_72 ?_
            obtain ⟨v28, hv28, hf⟩ := bdP hf
            refine p_iald hx hb hX.1 hP (hD.1 _ _ dX_1123) sgX1_rows_raI1123 hv28 dX1_rows_73 ?_
            refine lv_i2l hx hb dX1_rows_74 rfl ?_
            refine lv_goto (tgt := 81) hx hb dX1_rows_75 (by decide) ?_
            cases hf
            rw [hQ]; exact g_lret hx hb hr hlk hP hS dX1_rows_81
        · have hf := ifT c24 hf
          refine lv_aload_n hx hb dX1_rows_45 rfl (lv_at hl 0 rfl) ?_
          refine gx_X1_362_1000 (v := z20) E hX hD hP sgX1_rows_rzL1024 dX1_rows_46 ?_
          refine lv_goto (tgt := 81) hx hb dX1_rows_49 (by decide) ?_
          cases hf
          rw [hQ]; exact g_lret hx hb hr hlk hP hS dX1_rows_81
      refine lv_if_ne (tgt := 41) hx hb dX1_rows_32 (by decide) (fun c29 => ?_) (fun c29 => ?_)
      · have hf := ifF c29 hf
        exact J41 (σ.1 1021) (σ.1 1517) (σ.2.1 1024) (σ.2.2.1 1123) (σ.2.2.1 1161) (σ.2.2.1 1165) hf H locs hP hS ls (lv_sub hl [0, 1] rfl)
      · have hf := ifT c29 hf
        refine lv_aload_n hx hb dX1_rows_35 rfl (lv_at hl 0 rfl) ?_
        refine lv_iconst hx hb dX1_rows_36 ic_0 ?_
        refine lv_iconst hx hb dX1_rows_37 ic_0 ?_
        obtain ⟨⟨z30, z31, z32, a33, a34, a35⟩, u36, hf⟩ := bdP hf
        dsimp only at hf
        refine cx_X1_357_X1_rows_2 E hX hD hP hS hA (kxX1_rows_2 l D G hD sgX1_rows_rzI1021 sgX1_rows_rzI1517 sgX1_rows_rzI2008 sgX1_rows_rzI2012 sgX1_rows_rzI2013 sgX1_rows_rzI2027 sgX1_rows_rzI2032 sgX1_rows_rzL1024 sgX1_rows_raI1123 sgX1_rows_raI1161 sgX1_rows_raI1165 sgX1_rows_raI1170 sgX1_rows_raI2037 sgX1_rows_raI2043 sgX1_rows_raL1140 rfl rfl sgX1_rows_rpR2 sgX1_rows_rpR5 sgX1_rows_rpR6 sgX1_rows_rpW1 sgX1_rows_rpW2 sgX1_rows_rgG0 u36) ⟨rfl, rfl⟩ ⟨Nat.le_of_ble_eq_true rfl, Nat.le_of_ble_eq_true rfl⟩ ⟨Nat.zero_le _, Nat.zero_le _⟩ hl.1 (Nat.le_of_ble_eq_true rfl) dX1_rows_38 (fun H locs hP hS => ?_)
        rw [sgX1_rows_zI1021, sgX1_rows_zI1517, sgX1_rows_zL1024, sgX1_rows_aI1123, sgX1_rows_aI1161, sgX1_rows_aI1165] at hP
        exact J41 z30 z31 z32 a33 a34 a35 hf H locs hP hS ls (lv_sub hl [0, 1] rfl)
    · have hf := ifT c6 hf
      exact J20  hf H locs hP hS ls (lv_sub hl [] rfl)
theorem kxX1_rows (l : Launch) (D : va_G) (G : Nat → ClassId) {dsc : Nat → Option Dsc} {ad : Nat → Nat} {σ : Sto} {nr nw nu : Nat} (hD : XD dsc nr nw nu) {x1 : Int32} {r_ : Int64} {w_zI1018 : Int32} {w_zI1021 : Int32} {w_zI1062 : Int32} {w_zI1082 : Int32} {w_zI1517 : Int32} {w_zL1024 : Int64} {w_zL1052 : Int64} {w_aI1108 : Nat → Int32} {w_aI1123 : Nat → Int32} {w_aI1161 : Nat → Int32} {w_aI1162 : Nat → Int32} {w_aI1165 : Nat → Int32} {w_aL1140 : Nat → Int64} {w_aL1141 : Nat → Int64} {w_aL1150 : Nat → Int64} {w_aL1152 : Nat → Int64} {z_X_isLaid : Int32} (e_zI1018 : σ.1 1018 = z_X_isLaid) {z_X_hasRows : Int32} (e_zI1021 : σ.1 1021 = z_X_hasRows) {z_TB_by : Int32} (e_zI1062 : σ.1 1062 = z_TB_by) {z_TS_by : Int32} (e_zI1082 : σ.1 1082 = z_TS_by) {z_p8_many : Int32} (e_zI1517 : σ.1 1517 = z_p8_many) {z_L_places : Int32} (e_zI2008 : σ.1 2008 = z_L_places) {z_L_causes : Int32} (e_zI2009 : σ.1 2009 = z_L_causes) {z_L_from : Int32} (e_zI2012 : σ.1 2012 = z_L_from) {z_L_to : Int32} (e_zI2013 : σ.1 2013 = z_L_to) {z_Ld_size : Int32} (e_zI2027 : σ.1 2027 = z_Ld_size) {z_Lw_size : Int32} (e_zI2032 : σ.1 2032 = z_Lw_size) {z_X_bestRowMean : Int64} (e_zL1024 : σ.2.1 1024 = z_X_bestRowMean) {z_W_all : Int64} (e_zL1052 : σ.2.1 1052 = z_W_all) {z_TB_none : Int64} (e_zL1061 : σ.2.1 1061 = z_TB_none) {z_TS_none : Int64} (e_zL1081 : σ.2.1 1081 = z_TS_none) {a_X_knowing : Nat → Int32} (e_aI1108 : σ.2.2.1 1108 = a_X_knowing) {a_X_bestRow : Nat → Int32} (e_aI1123 : σ.2.2.1 1123 = a_X_bestRow) {a_p8_far : Nat → Int32} (e_aI1161 : σ.2.2.1 1161 = a_p8_far) {a_p3_far : Nat → Int32} (e_aI1162 : σ.2.2.1 1162 = a_p3_far) {a_p8_row : Nat → Int32} (e_aI1165 : σ.2.2.1 1165 = a_p8_row) {a_UNIT : Nat → Int32} (e_aI1170 : σ.2.2.1 1170 = a_UNIT) {a_Ld_data : Nat → Int32} (e_aI2036 : σ.2.2.1 2036 = a_Ld_data) {a_Lw_data : Nat → Int32} (e_aI2037 : σ.2.2.1 2037 = a_Lw_data) {a_L_comes : Nat → Int32} (e_aI2042 : σ.2.2.1 2042 = a_L_comes) {a_L_seen : Nat → Int32} (e_aI2043 : σ.2.2.1 2043 = a_L_seen) {a_W_world : Nat → Int64} (e_aL1140 : σ.2.2.2.1 1140 = a_W_world) {a_W_likely : Nat → Int64} (e_aL1141 : σ.2.2.2.1 1141 = a_W_likely) {a_TB_value : Nat → Int64} (e_aL1150 : σ.2.2.2.1 1150 = a_TB_value) {a_TS_value : Nat → Int64} (e_aL1152 : σ.2.2.2.1 1152 = a_TS_value) {n_r : Nat} (e_nN0 : nr = n_r) {n_w : Nat} (e_nN1 : nw = n_w) {p_road_hours : Nat → Int32} (e_pR2 : (fun k => σ.1 (6000 + 16 * k + 2)) = p_road_hours) {p_road_doubt : Nat → Int32} (e_pR3 : (fun k => σ.1 (6000 + 16 * k + 3)) = p_road_doubt) {p_road_cause : Nat → Int32} (e_pR4 : (fun k => σ.1 (6000 + 16 * k + 4)) = p_road_cause) {p_road_wait : Nat → Int32} (e_pR5 : (fun k => σ.1 (6000 + 16 * k + 5)) = p_road_wait) {p_road_number : Nat → Int32} (e_pR6 : (fun k => σ.1 (6000 + 16 * k + 6)) = p_road_number) {p_word_place : Nat → Int32} (e_pW0 : (fun k => σ.1 (8000 + 16 * k + 0)) = p_word_place) {p_word_road : Nat → Int32} (e_pW1 : (fun k => σ.1 (8000 + 16 * k + 1)) = p_word_road) {p_word_hours : Nat → Int32} (e_pW2 : (fun k => σ.1 (8000 + 16 * k + 2)) = p_word_hours) {g_grid : Nat → Nat → Int32} (e_gG0 : (fun k => σ.2.2.1 (4000 + 16 * k)) = g_grid) (hf : xo_X1_rows z_X_isLaid z_X_hasRows z_TB_by z_TS_by z_p8_many z_L_places z_L_causes z_L_from z_L_to z_Ld_size z_Lw_size z_X_bestRowMean z_W_all z_TB_none z_TS_none a_X_knowing a_X_bestRow a_p8_far a_p3_far a_p8_row a_UNIT a_Ld_data a_Lw_data a_L_comes a_L_seen a_W_world a_W_likely a_TB_value a_TS_value n_r n_w p_road_hours p_road_doubt p_road_cause p_road_wait p_road_number p_word_place p_word_road p_word_hours g_grid x1 = some (r_, w_zI1018, w_zI1021, w_zI1062, w_zI1082, w_zI1517, w_zL1024, w_zL1052, w_aI1108, w_aI1123, w_aI1161, w_aI1162, w_aI1165, w_aL1140, w_aL1141, w_aL1150, w_aL1152)) : CtG l D G dsc ad yX1_rows (ws_ yX1_rows cX1_rows 2 (Option.some Jvm.ClassFile.FieldType.long)) rmX1_rows [.ref (ad 1000), .int x1] σ (some (.long r_)) (aL (aL (aL (aL (aI (aI (aI (aI (aI (zL (zL (zI (zI (zI (zI (zI σ 1018 w_zI1018) 1021 w_zI1021) 1062 w_zI1062) 1082 w_zI1082) 1517 w_zI1517) 1024 w_zL1024) 1052 w_zL1052) 1108 w_aI1108) 1123 w_aI1123) 1161 w_aI1161) 1162 w_aI1162) 1165 w_aI1165) 1140 w_aL1140) 1141 w_aL1141) 1150 w_aL1150) 1152 w_aL1152) := by
  subst e_zI1018
  subst e_zI1021
  subst e_zI1062
  subst e_zI1082
  subst e_zI1517
  subst e_zI2008
  subst e_zI2009
  subst e_zI2012
  subst e_zI2013
  subst e_zI2027
  subst e_zI2032
  subst e_zL1024
  subst e_zL1052
  subst e_zL1061
  subst e_zL1081
  subst e_aI1108
  subst e_aI1123
  subst e_aI1161
  subst e_aI1162
  subst e_aI1165
  subst e_aI1170
  subst e_aI2036
  subst e_aI2037
  subst e_aI2042
  subst e_aI2043
  subst e_aL1140
  subst e_aL1141
  subst e_aL1150
  subst e_aL1152
  subst e_nN0
  subst e_nN1
  subst e_pR2
  subst e_pR3
  subst e_pR4
  subst e_pR5
  subst e_pR6
  subst e_pW0
  subst e_pW1
  subst e_pW2
  subst e_gG0
  exact p_ctG (by decide +kernel) (Nat.le_of_ble_eq_true rfl) (fun p e s m below meth c0 ls A E hP hX hA hS hl => wkX1_rows E hX hD hA hf rfl hP hS hl)
theorem cx_X1_417_X1_ahead {rm : Room} {σ1 : Sto} {x1 : Int32} {r : Int64} (E : EN p s m args meth c0 RX1 cc nL ret) (hX : KX D G ad A s s.heap) (hD : XD dsc nr nw nu) (hP : PIC D clsA G dsc ad σ H) (hS : va_S A s.heap H locs) (hA : ∀ q, PA dsc ad s.heap.size q → A q) (hM : CtG l D G dsc ad yX1_ahead (ws_ yX1_ahead cX1_ahead 2 (Option.some Jvm.ClassFile.FieldType.long)) rm [.ref (ad 1000), .int x1] σ (some (.long r)) σ1) (hz : rm.cells = 0 ∧ rm.slots = 0) (hR : rm.frames + 1 ≤ R.frames ∧ 8 + (2 + 11) + rm.locals ≤ R.locals) (hcs : cells ≤ R.cells ∧ slots ≤ R.slots) (hsz : ls.size = nL) (hW : (rest.map fun v => v.category).sum ≤ 8) (hdg : decode cc pc = .ok (.invokevirtual 417, 3)) (kk : ∀ (H1 : Heap) (locs1 : List Loc), PIC D clsA G dsc ad σ1 H1 → va_S A s.heap H1 locs1 → W p l e R s m args below meth c0 H1 locs1 cells slots Q (F0 m (pc + 3) ls (.long r :: rest))) : W p l e R s m args below meth c0 H locs cells slots Q (F0 m pc ls (.int x1 :: .ref (ad 1000) :: rest)) :=
  p_gV (As := [.int x1]) (rest := rest) E.1 hX hP hS hA hM (cwV 1 E.1.2.2.2.2 (lw_V q1474 q1476 qs39 q124 q1477) rfl hz.1 hz.2 (by decide +kernel) hR) (hD.1 _ _ dX_1000) rfl rfl rfl hsz rfl hW hdg hcs kk
theorem gx_X1_421_1060 {v : Int64} (E : EN p s m args meth c0 RX1 cc nL ret) (hX : KX D G ad A s s.heap) (hD : XD dsc nr nw nu) (hP : PIC D clsA G dsc ad σ H) (hv : σ.2.1 1061 = v) (hdg : decode cc pc = .ok (.getfield 421, 3)) (kk : W p l e R s m args below meth c0 H locs cells slots Q (F0 m (pc + 3) ls (.long v :: rest))) : W p l e R s m args below meth c0 H locs cells slots Q (F0 m pc ls (.ref (ad 1060) :: rest)) :=
  p_get E.1.1 E.1.2.1 E.1.2.2.2.2 in_X6 E.1.2.2.2.1 hX.1 hP (hD.1 _ _ dX_1060) rfl 1 (by decide) (E.1.2.2.2.2 _ q357) (fun x h => u_same (E.1.2.2.2.2 _ q358) x h) rfl (congrArg Value.long hv) hdg kk
theorem cx_X1_422_J17_bitCount {rm : Room} {σ1 : Sto} {x0 : Int32} {r : Int32} (E : EN p s m args meth c0 RX1 cc nL ret) (hX : KX D G ad A s s.heap) (hD : XD dsc nr nw nu) (hP : PIC D clsA G dsc ad σ H) (hS : va_S A s.heap H locs) (hA : ∀ q, PA dsc ad s.heap.size q → A q) (hM : CtG l D G dsc ad yJ17_bitCount (ws_ yJ17_bitCount cJ17_bitCount 1 (Option.some Jvm.ClassFile.FieldType.int)) rm [.int x0] σ (some (.int r)) σ1) (hz : rm.cells = 0 ∧ rm.slots = 0) (hR : rm.frames + 1 ≤ R.frames ∧ 8 + (1 + 11) + rm.locals ≤ R.locals) (hcs : cells ≤ R.cells ∧ slots ≤ R.slots) (hsz : ls.size = nL) (hW : (rest.map fun v => v.category).sum ≤ 8) (hdg : decode cc pc = .ok (.invokestatic 422, 3)) (kk : ∀ (H1 : Heap) (locs1 : List Loc), PIC D clsA G dsc ad σ1 H1 → va_S A s.heap H1 locs1 → W p l e R s m args below meth c0 H1 locs1 cells slots Q (F0 m (pc + 3) ls (.int r :: rest))) : W p l e R s m args below meth c0 H locs cells slots Q (F0 m pc ls (.int x0 :: rest)) :=
  p_gS (As := [.int x0]) (rest := rest) E.1 hX hP hS hA hM (va_cwS 1 E.1.2.2.2.2 (lw_S q1487 q1488 q161 q1489) rfl hz.1 hz.2 (by decide +kernel) hR) rfl hsz rfl hW hdg hcs kk
theorem gx_X1_425_1050 {v : Int64} (E : EN p s m args meth c0 RX1 cc nL ret) (hX : KX D G ad A s s.heap) (hD : XD dsc nr nw nu) (hP : PIC D clsA G dsc ad σ H) (hv : σ.2.1 1052 = v) (hdg : decode cc pc = .ok (.getfield 425, 3)) (kk : W p l e R s m args below meth c0 H locs cells slots Q (F0 m (pc + 3) ls (.long v :: rest))) : W p l e R s m args below meth c0 H locs cells slots Q (F0 m pc ls (.ref (ad 1050) :: rest)) :=
  p_getN E.1.1 E.1.2.1 E.1.2.2.2.2 in_X4 E.1.2.2.2.1 hX.1 hP (hD.1 _ _ dX_1050) rfl 2 (by decide) (hX.2.1.1 _ q332 rfl) (fun _ h => h) rfl (congrArg Value.long hv) hdg kk
/-! X1_scout (II)J -/
def sgX1_scout (σ : Sto) (w0 : Int32) (w1 : Int32) (w2 : Int32) (w3 : Int64) (w4 : Nat → Int32) (w5 : Nat → Int32) (w6 : Nat → Int64) (w7 : Nat → Int64) (w8 : Nat → Int64) (w9 : Nat → Int64) : Sto := aL (aL (aL (aL (aI (aI (zL (zI (zI (zI σ 1018 w0) 1062 w1) 1082 w2) 1052 w3) 1108 w4) 1162 w5) 1140 w6) 1141 w7) 1150 w8) 1152 w9
theorem sgX1_scout_self (σ : Sto) : sgX1_scout σ (σ.1 1018) (σ.1 1062) (σ.1 1082) (σ.2.1 1052) (σ.2.2.1 1108) (σ.2.2.1 1162) (σ.2.2.2.1 1140) (σ.2.2.2.1 1141) (σ.2.2.2.1 1150) (σ.2.2.2.1 1152) = σ := by
  unfold sgX1_scout
  simp only [zI_self, zL_self, aI_self, aL_self]
theorem sgX1_scout_zI1018 {σ : Sto} {w0 : Int32} {w1 : Int32} {w2 : Int32} {w3 : Int64} {w4 : Nat → Int32} {w5 : Nat → Int32} {w6 : Nat → Int64} {w7 : Nat → Int64} {w8 : Nat → Int64} {w9 : Nat → Int64} {g : Int32} : zI (sgX1_scout σ w0 w1 w2 w3 w4 w5 w6 w7 w8 w9) 1018 g = sgX1_scout σ g w1 w2 w3 w4 w5 w6 w7 w8 w9 := (cm_zI_aL _ _ _ _ _).trans (congrArg (fun z => aL z 1152 w9) ((cm_zI_aL _ _ _ _ _).trans (congrArg (fun z => aL z 1150 w8) ((cm_zI_aL _ _ _ _ _).trans (congrArg (fun z => aL z 1141 w7) ((cm_zI_aL _ _ _ _ _).trans (congrArg (fun z => aL z 1140 w6) ((cm_zI_aI _ _ _ _ _).trans (congrArg (fun z => aI z 1162 w5) ((cm_zI_aI _ _ _ _ _).trans (congrArg (fun z => aI z 1108 w4) ((cm_zI_zL _ _ _ _ _).trans (congrArg (fun z => zL z 1052 w3) ((zI_comm _ (by decide) _ _).trans (congrArg (fun z => zI z 1082 w2) ((zI_comm _ (by decide) _ _).trans (congrArg (fun z => zI z 1062 w1) (zI_zI _ 1018 _ _))))))))))))))))))
theorem sgX1_scout_zI1062 {σ : Sto} {w0 : Int32} {w1 : Int32} {w2 : Int32} {w3 : Int64} {w4 : Nat → Int32} {w5 : Nat → Int32} {w6 : Nat → Int64} {w7 : Nat → Int64} {w8 : Nat → Int64} {w9 : Nat → Int64} {g : Int32} : zI (sgX1_scout σ w0 w1 w2 w3 w4 w5 w6 w7 w8 w9) 1062 g = sgX1_scout σ w0 g w2 w3 w4 w5 w6 w7 w8 w9 := (cm_zI_aL _ _ _ _ _).trans (congrArg (fun z => aL z 1152 w9) ((cm_zI_aL _ _ _ _ _).trans (congrArg (fun z => aL z 1150 w8) ((cm_zI_aL _ _ _ _ _).trans (congrArg (fun z => aL z 1141 w7) ((cm_zI_aL _ _ _ _ _).trans (congrArg (fun z => aL z 1140 w6) ((cm_zI_aI _ _ _ _ _).trans (congrArg (fun z => aI z 1162 w5) ((cm_zI_aI _ _ _ _ _).trans (congrArg (fun z => aI z 1108 w4) ((cm_zI_zL _ _ _ _ _).trans (congrArg (fun z => zL z 1052 w3) ((zI_comm _ (by decide) _ _).trans (congrArg (fun z => zI z 1082 w2) (zI_zI _ 1062 _ _))))))))))))))))
theorem sgX1_scout_zI1082 {σ : Sto} {w0 : Int32} {w1 : Int32} {w2 : Int32} {w3 : Int64} {w4 : Nat → Int32} {w5 : Nat → Int32} {w6 : Nat → Int64} {w7 : Nat → Int64} {w8 : Nat → Int64} {w9 : Nat → Int64} {g : Int32} : zI (sgX1_scout σ w0 w1 w2 w3 w4 w5 w6 w7 w8 w9) 1082 g = sgX1_scout σ w0 w1 g w3 w4 w5 w6 w7 w8 w9 := (cm_zI_aL _ _ _ _ _).trans (congrArg (fun z => aL z 1152 w9) ((cm_zI_aL _ _ _ _ _).trans (congrArg (fun z => aL z 1150 w8) ((cm_zI_aL _ _ _ _ _).trans (congrArg (fun z => aL z 1141 w7) ((cm_zI_aL _ _ _ _ _).trans (congrArg (fun z => aL z 1140 w6) ((cm_zI_aI _ _ _ _ _).trans (congrArg (fun z => aI z 1162 w5) ((cm_zI_aI _ _ _ _ _).trans (congrArg (fun z => aI z 1108 w4) ((cm_zI_zL _ _ _ _ _).trans (congrArg (fun z => zL z 1052 w3) (zI_zI _ 1082 _ _))))))))))))))
theorem sgX1_scout_zL1052 {σ : Sto} {w0 : Int32} {w1 : Int32} {w2 : Int32} {w3 : Int64} {w4 : Nat → Int32} {w5 : Nat → Int32} {w6 : Nat → Int64} {w7 : Nat → Int64} {w8 : Nat → Int64} {w9 : Nat → Int64} {g : Int64} : zL (sgX1_scout σ w0 w1 w2 w3 w4 w5 w6 w7 w8 w9) 1052 g = sgX1_scout σ w0 w1 w2 g w4 w5 w6 w7 w8 w9 := (cm_zL_aL _ _ _ _ _).trans (congrArg (fun z => aL z 1152 w9) ((cm_zL_aL _ _ _ _ _).trans (congrArg (fun z => aL z 1150 w8) ((cm_zL_aL _ _ _ _ _).trans (congrArg (fun z => aL z 1141 w7) ((cm_zL_aL _ _ _ _ _).trans (congrArg (fun z => aL z 1140 w6) ((cm_zL_aI _ _ _ _ _).trans (congrArg (fun z => aI z 1162 w5) ((cm_zL_aI _ _ _ _ _).trans (congrArg (fun z => aI z 1108 w4) (zL_zL _ 1052 _ _))))))))))))
theorem sgX1_scout_aI1108 {σ : Sto} {w0 : Int32} {w1 : Int32} {w2 : Int32} {w3 : Int64} {w4 : Nat → Int32} {w5 : Nat → Int32} {w6 : Nat → Int64} {w7 : Nat → Int64} {w8 : Nat → Int64} {w9 : Nat → Int64} {g : Nat → Int32} : aI (sgX1_scout σ w0 w1 w2 w3 w4 w5 w6 w7 w8 w9) 1108 g = sgX1_scout σ w0 w1 w2 w3 g w5 w6 w7 w8 w9 := (cm_aI_aL _ _ _ _ _).trans (congrArg (fun z => aL z 1152 w9) ((cm_aI_aL _ _ _ _ _).trans (congrArg (fun z => aL z 1150 w8) ((cm_aI_aL _ _ _ _ _).trans (congrArg (fun z => aL z 1141 w7) ((cm_aI_aL _ _ _ _ _).trans (congrArg (fun z => aL z 1140 w6) ((aI_comm _ (by decide) _ _).trans (congrArg (fun z => aI z 1162 w5) (aI_aI _ 1108 _ _))))))))))
theorem sgX1_scout_aI1162 {σ : Sto} {w0 : Int32} {w1 : Int32} {w2 : Int32} {w3 : Int64} {w4 : Nat → Int32} {w5 : Nat → Int32} {w6 : Nat → Int64} {w7 : Nat → Int64} {w8 : Nat → Int64} {w9 : Nat → Int64} {g : Nat → Int32} : aI (sgX1_scout σ w0 w1 w2 w3 w4 w5 w6 w7 w8 w9) 1162 g = sgX1_scout σ w0 w1 w2 w3 w4 g w6 w7 w8 w9 := (cm_aI_aL _ _ _ _ _).trans (congrArg (fun z => aL z 1152 w9) ((cm_aI_aL _ _ _ _ _).trans (congrArg (fun z => aL z 1150 w8) ((cm_aI_aL _ _ _ _ _).trans (congrArg (fun z => aL z 1141 w7) ((cm_aI_aL _ _ _ _ _).trans (congrArg (fun z => aL z 1140 w6) (aI_aI _ 1162 _ _))))))))
theorem sgX1_scout_aL1140 {σ : Sto} {w0 : Int32} {w1 : Int32} {w2 : Int32} {w3 : Int64} {w4 : Nat → Int32} {w5 : Nat → Int32} {w6 : Nat → Int64} {w7 : Nat → Int64} {w8 : Nat → Int64} {w9 : Nat → Int64} {g : Nat → Int64} : aL (sgX1_scout σ w0 w1 w2 w3 w4 w5 w6 w7 w8 w9) 1140 g = sgX1_scout σ w0 w1 w2 w3 w4 w5 g w7 w8 w9 := (aL_comm _ (by decide) _ _).trans (congrArg (fun z => aL z 1152 w9) ((aL_comm _ (by decide) _ _).trans (congrArg (fun z => aL z 1150 w8) ((aL_comm _ (by decide) _ _).trans (congrArg (fun z => aL z 1141 w7) (aL_aL _ 1140 _ _))))))
theorem sgX1_scout_aL1141 {σ : Sto} {w0 : Int32} {w1 : Int32} {w2 : Int32} {w3 : Int64} {w4 : Nat → Int32} {w5 : Nat → Int32} {w6 : Nat → Int64} {w7 : Nat → Int64} {w8 : Nat → Int64} {w9 : Nat → Int64} {g : Nat → Int64} : aL (sgX1_scout σ w0 w1 w2 w3 w4 w5 w6 w7 w8 w9) 1141 g = sgX1_scout σ w0 w1 w2 w3 w4 w5 w6 g w8 w9 := (aL_comm _ (by decide) _ _).trans (congrArg (fun z => aL z 1152 w9) ((aL_comm _ (by decide) _ _).trans (congrArg (fun z => aL z 1150 w8) (aL_aL _ 1141 _ _))))
theorem sgX1_scout_aL1150 {σ : Sto} {w0 : Int32} {w1 : Int32} {w2 : Int32} {w3 : Int64} {w4 : Nat → Int32} {w5 : Nat → Int32} {w6 : Nat → Int64} {w7 : Nat → Int64} {w8 : Nat → Int64} {w9 : Nat → Int64} {g : Nat → Int64} : aL (sgX1_scout σ w0 w1 w2 w3 w4 w5 w6 w7 w8 w9) 1150 g = sgX1_scout σ w0 w1 w2 w3 w4 w5 w6 w7 g w9 := (aL_comm _ (by decide) _ _).trans (congrArg (fun z => aL z 1152 w9) (aL_aL _ 1150 _ _))
theorem sgX1_scout_aL1152 {σ : Sto} {w0 : Int32} {w1 : Int32} {w2 : Int32} {w3 : Int64} {w4 : Nat → Int32} {w5 : Nat → Int32} {w6 : Nat → Int64} {w7 : Nat → Int64} {w8 : Nat → Int64} {w9 : Nat → Int64} {g : Nat → Int64} : aL (sgX1_scout σ w0 w1 w2 w3 w4 w5 w6 w7 w8 w9) 1152 g = sgX1_scout σ w0 w1 w2 w3 w4 w5 w6 w7 w8 g := aL_aL _ 1152 _ _
theorem sgX1_scout_rzI1018 {σ : Sto} {w0 : Int32} {w1 : Int32} {w2 : Int32} {w3 : Int64} {w4 : Nat → Int32} {w5 : Nat → Int32} {w6 : Nat → Int64} {w7 : Nat → Int64} {w8 : Nat → Int64} {w9 : Nat → Int64} : (sgX1_scout σ w0 w1 w2 w3 w4 w5 w6 w7 w8 w9).1 1018 = w0 := rfl
theorem sgX1_scout_rzI1062 {σ : Sto} {w0 : Int32} {w1 : Int32} {w2 : Int32} {w3 : Int64} {w4 : Nat → Int32} {w5 : Nat → Int32} {w6 : Nat → Int64} {w7 : Nat → Int64} {w8 : Nat → Int64} {w9 : Nat → Int64} : (sgX1_scout σ w0 w1 w2 w3 w4 w5 w6 w7 w8 w9).1 1062 = w1 := rfl
theorem sgX1_scout_rzI1082 {σ : Sto} {w0 : Int32} {w1 : Int32} {w2 : Int32} {w3 : Int64} {w4 : Nat → Int32} {w5 : Nat → Int32} {w6 : Nat → Int64} {w7 : Nat → Int64} {w8 : Nat → Int64} {w9 : Nat → Int64} : (sgX1_scout σ w0 w1 w2 w3 w4 w5 w6 w7 w8 w9).1 1082 = w2 := rfl
theorem sgX1_scout_rzI2008 {σ : Sto} {w0 : Int32} {w1 : Int32} {w2 : Int32} {w3 : Int64} {w4 : Nat → Int32} {w5 : Nat → Int32} {w6 : Nat → Int64} {w7 : Nat → Int64} {w8 : Nat → Int64} {w9 : Nat → Int64} : (sgX1_scout σ w0 w1 w2 w3 w4 w5 w6 w7 w8 w9).1 2008 = σ.1 2008 := rfl
theorem sgX1_scout_rzI2009 {σ : Sto} {w0 : Int32} {w1 : Int32} {w2 : Int32} {w3 : Int64} {w4 : Nat → Int32} {w5 : Nat → Int32} {w6 : Nat → Int64} {w7 : Nat → Int64} {w8 : Nat → Int64} {w9 : Nat → Int64} : (sgX1_scout σ w0 w1 w2 w3 w4 w5 w6 w7 w8 w9).1 2009 = σ.1 2009 := rfl
theorem sgX1_scout_rzI2012 {σ : Sto} {w0 : Int32} {w1 : Int32} {w2 : Int32} {w3 : Int64} {w4 : Nat → Int32} {w5 : Nat → Int32} {w6 : Nat → Int64} {w7 : Nat → Int64} {w8 : Nat → Int64} {w9 : Nat → Int64} : (sgX1_scout σ w0 w1 w2 w3 w4 w5 w6 w7 w8 w9).1 2012 = σ.1 2012 := rfl
theorem sgX1_scout_rzI2013 {σ : Sto} {w0 : Int32} {w1 : Int32} {w2 : Int32} {w3 : Int64} {w4 : Nat → Int32} {w5 : Nat → Int32} {w6 : Nat → Int64} {w7 : Nat → Int64} {w8 : Nat → Int64} {w9 : Nat → Int64} : (sgX1_scout σ w0 w1 w2 w3 w4 w5 w6 w7 w8 w9).1 2013 = σ.1 2013 := rfl
theorem sgX1_scout_rzI2027 {σ : Sto} {w0 : Int32} {w1 : Int32} {w2 : Int32} {w3 : Int64} {w4 : Nat → Int32} {w5 : Nat → Int32} {w6 : Nat → Int64} {w7 : Nat → Int64} {w8 : Nat → Int64} {w9 : Nat → Int64} : (sgX1_scout σ w0 w1 w2 w3 w4 w5 w6 w7 w8 w9).1 2027 = σ.1 2027 := rfl
theorem sgX1_scout_rzI2032 {σ : Sto} {w0 : Int32} {w1 : Int32} {w2 : Int32} {w3 : Int64} {w4 : Nat → Int32} {w5 : Nat → Int32} {w6 : Nat → Int64} {w7 : Nat → Int64} {w8 : Nat → Int64} {w9 : Nat → Int64} : (sgX1_scout σ w0 w1 w2 w3 w4 w5 w6 w7 w8 w9).1 2032 = σ.1 2032 := rfl
theorem sgX1_scout_rzL1052 {σ : Sto} {w0 : Int32} {w1 : Int32} {w2 : Int32} {w3 : Int64} {w4 : Nat → Int32} {w5 : Nat → Int32} {w6 : Nat → Int64} {w7 : Nat → Int64} {w8 : Nat → Int64} {w9 : Nat → Int64} : (sgX1_scout σ w0 w1 w2 w3 w4 w5 w6 w7 w8 w9).2.1 1052 = w3 := rfl
theorem sgX1_scout_rzL1061 {σ : Sto} {w0 : Int32} {w1 : Int32} {w2 : Int32} {w3 : Int64} {w4 : Nat → Int32} {w5 : Nat → Int32} {w6 : Nat → Int64} {w7 : Nat → Int64} {w8 : Nat → Int64} {w9 : Nat → Int64} : (sgX1_scout σ w0 w1 w2 w3 w4 w5 w6 w7 w8 w9).2.1 1061 = σ.2.1 1061 := rfl
theorem sgX1_scout_rzL1081 {σ : Sto} {w0 : Int32} {w1 : Int32} {w2 : Int32} {w3 : Int64} {w4 : Nat → Int32} {w5 : Nat → Int32} {w6 : Nat → Int64} {w7 : Nat → Int64} {w8 : Nat → Int64} {w9 : Nat → Int64} : (sgX1_scout σ w0 w1 w2 w3 w4 w5 w6 w7 w8 w9).2.1 1081 = σ.2.1 1081 := rfl
theorem sgX1_scout_raI1108 {σ : Sto} {w0 : Int32} {w1 : Int32} {w2 : Int32} {w3 : Int64} {w4 : Nat → Int32} {w5 : Nat → Int32} {w6 : Nat → Int64} {w7 : Nat → Int64} {w8 : Nat → Int64} {w9 : Nat → Int64} : (sgX1_scout σ w0 w1 w2 w3 w4 w5 w6 w7 w8 w9).2.2.1 1108 = w4 := rfl
theorem sgX1_scout_raI1162 {σ : Sto} {w0 : Int32} {w1 : Int32} {w2 : Int32} {w3 : Int64} {w4 : Nat → Int32} {w5 : Nat → Int32} {w6 : Nat → Int64} {w7 : Nat → Int64} {w8 : Nat → Int64} {w9 : Nat → Int64} : (sgX1_scout σ w0 w1 w2 w3 w4 w5 w6 w7 w8 w9).2.2.1 1162 = w5 := rfl
theorem sgX1_scout_raI1170 {σ : Sto} {w0 : Int32} {w1 : Int32} {w2 : Int32} {w3 : Int64} {w4 : Nat → Int32} {w5 : Nat → Int32} {w6 : Nat → Int64} {w7 : Nat → Int64} {w8 : Nat → Int64} {w9 : Nat → Int64} : (sgX1_scout σ w0 w1 w2 w3 w4 w5 w6 w7 w8 w9).2.2.1 1170 = σ.2.2.1 1170 := rfl
theorem sgX1_scout_raI2036 {σ : Sto} {w0 : Int32} {w1 : Int32} {w2 : Int32} {w3 : Int64} {w4 : Nat → Int32} {w5 : Nat → Int32} {w6 : Nat → Int64} {w7 : Nat → Int64} {w8 : Nat → Int64} {w9 : Nat → Int64} : (sgX1_scout σ w0 w1 w2 w3 w4 w5 w6 w7 w8 w9).2.2.1 2036 = σ.2.2.1 2036 := rfl
theorem sgX1_scout_raI2037 {σ : Sto} {w0 : Int32} {w1 : Int32} {w2 : Int32} {w3 : Int64} {w4 : Nat → Int32} {w5 : Nat → Int32} {w6 : Nat → Int64} {w7 : Nat → Int64} {w8 : Nat → Int64} {w9 : Nat → Int64} : (sgX1_scout σ w0 w1 w2 w3 w4 w5 w6 w7 w8 w9).2.2.1 2037 = σ.2.2.1 2037 := rfl
theorem sgX1_scout_raI2042 {σ : Sto} {w0 : Int32} {w1 : Int32} {w2 : Int32} {w3 : Int64} {w4 : Nat → Int32} {w5 : Nat → Int32} {w6 : Nat → Int64} {w7 : Nat → Int64} {w8 : Nat → Int64} {w9 : Nat → Int64} : (sgX1_scout σ w0 w1 w2 w3 w4 w5 w6 w7 w8 w9).2.2.1 2042 = σ.2.2.1 2042 := rfl
theorem sgX1_scout_raI2043 {σ : Sto} {w0 : Int32} {w1 : Int32} {w2 : Int32} {w3 : Int64} {w4 : Nat → Int32} {w5 : Nat → Int32} {w6 : Nat → Int64} {w7 : Nat → Int64} {w8 : Nat → Int64} {w9 : Nat → Int64} : (sgX1_scout σ w0 w1 w2 w3 w4 w5 w6 w7 w8 w9).2.2.1 2043 = σ.2.2.1 2043 := rfl
theorem sgX1_scout_raL1140 {σ : Sto} {w0 : Int32} {w1 : Int32} {w2 : Int32} {w3 : Int64} {w4 : Nat → Int32} {w5 : Nat → Int32} {w6 : Nat → Int64} {w7 : Nat → Int64} {w8 : Nat → Int64} {w9 : Nat → Int64} : (sgX1_scout σ w0 w1 w2 w3 w4 w5 w6 w7 w8 w9).2.2.2.1 1140 = w6 := rfl
theorem sgX1_scout_raL1141 {σ : Sto} {w0 : Int32} {w1 : Int32} {w2 : Int32} {w3 : Int64} {w4 : Nat → Int32} {w5 : Nat → Int32} {w6 : Nat → Int64} {w7 : Nat → Int64} {w8 : Nat → Int64} {w9 : Nat → Int64} : (sgX1_scout σ w0 w1 w2 w3 w4 w5 w6 w7 w8 w9).2.2.2.1 1141 = w7 := rfl
theorem sgX1_scout_raL1150 {σ : Sto} {w0 : Int32} {w1 : Int32} {w2 : Int32} {w3 : Int64} {w4 : Nat → Int32} {w5 : Nat → Int32} {w6 : Nat → Int64} {w7 : Nat → Int64} {w8 : Nat → Int64} {w9 : Nat → Int64} : (sgX1_scout σ w0 w1 w2 w3 w4 w5 w6 w7 w8 w9).2.2.2.1 1150 = w8 := rfl
theorem sgX1_scout_raL1152 {σ : Sto} {w0 : Int32} {w1 : Int32} {w2 : Int32} {w3 : Int64} {w4 : Nat → Int32} {w5 : Nat → Int32} {w6 : Nat → Int64} {w7 : Nat → Int64} {w8 : Nat → Int64} {w9 : Nat → Int64} : (sgX1_scout σ w0 w1 w2 w3 w4 w5 w6 w7 w8 w9).2.2.2.1 1152 = w9 := rfl
theorem sgX1_scout_rpR2 {σ : Sto} {w0 : Int32} {w1 : Int32} {w2 : Int32} {w3 : Int64} {w4 : Nat → Int32} {w5 : Nat → Int32} {w6 : Nat → Int64} {w7 : Nat → Int64} {w8 : Nat → Int64} {w9 : Nat → Int64} : (fun k => (sgX1_scout σ w0 w1 w2 w3 w4 w5 w6 w7 w8 w9).1 (6000 + 16 * k + 2)) = (fun k => σ.1 (6000 + 16 * k + 2)) := by
  funext k
  unfold sgX1_scout
  dsimp only [zI, zL, aI, aL]
  repeat rw [if_neg (by omega)]
theorem sgX1_scout_rpR3 {σ : Sto} {w0 : Int32} {w1 : Int32} {w2 : Int32} {w3 : Int64} {w4 : Nat → Int32} {w5 : Nat → Int32} {w6 : Nat → Int64} {w7 : Nat → Int64} {w8 : Nat → Int64} {w9 : Nat → Int64} : (fun k => (sgX1_scout σ w0 w1 w2 w3 w4 w5 w6 w7 w8 w9).1 (6000 + 16 * k + 3)) = (fun k => σ.1 (6000 + 16 * k + 3)) := by
  funext k
  unfold sgX1_scout
  dsimp only [zI, zL, aI, aL]
  repeat rw [if_neg (by omega)]
theorem sgX1_scout_rpR4 {σ : Sto} {w0 : Int32} {w1 : Int32} {w2 : Int32} {w3 : Int64} {w4 : Nat → Int32} {w5 : Nat → Int32} {w6 : Nat → Int64} {w7 : Nat → Int64} {w8 : Nat → Int64} {w9 : Nat → Int64} : (fun k => (sgX1_scout σ w0 w1 w2 w3 w4 w5 w6 w7 w8 w9).1 (6000 + 16 * k + 4)) = (fun k => σ.1 (6000 + 16 * k + 4)) := by
  funext k
  unfold sgX1_scout
  dsimp only [zI, zL, aI, aL]
  repeat rw [if_neg (by omega)]
theorem sgX1_scout_rpR5 {σ : Sto} {w0 : Int32} {w1 : Int32} {w2 : Int32} {w3 : Int64} {w4 : Nat → Int32} {w5 : Nat → Int32} {w6 : Nat → Int64} {w7 : Nat → Int64} {w8 : Nat → Int64} {w9 : Nat → Int64} : (fun k => (sgX1_scout σ w0 w1 w2 w3 w4 w5 w6 w7 w8 w9).1 (6000 + 16 * k + 5)) = (fun k => σ.1 (6000 + 16 * k + 5)) := by
  funext k
  unfold sgX1_scout
  dsimp only [zI, zL, aI, aL]
  repeat rw [if_neg (by omega)]
theorem sgX1_scout_rpR6 {σ : Sto} {w0 : Int32} {w1 : Int32} {w2 : Int32} {w3 : Int64} {w4 : Nat → Int32} {w5 : Nat → Int32} {w6 : Nat → Int64} {w7 : Nat → Int64} {w8 : Nat → Int64} {w9 : Nat → Int64} : (fun k => (sgX1_scout σ w0 w1 w2 w3 w4 w5 w6 w7 w8 w9).1 (6000 + 16 * k + 6)) = (fun k => σ.1 (6000 + 16 * k + 6)) := by
  funext k
  unfold sgX1_scout
  dsimp only [zI, zL, aI, aL]
  repeat rw [if_neg (by omega)]
theorem sgX1_scout_rpW0 {σ : Sto} {w0 : Int32} {w1 : Int32} {w2 : Int32} {w3 : Int64} {w4 : Nat → Int32} {w5 : Nat → Int32} {w6 : Nat → Int64} {w7 : Nat → Int64} {w8 : Nat → Int64} {w9 : Nat → Int64} : (fun k => (sgX1_scout σ w0 w1 w2 w3 w4 w5 w6 w7 w8 w9).1 (8000 + 16 * k + 0)) = (fun k => σ.1 (8000 + 16 * k + 0)) := by
  funext k
  unfold sgX1_scout
  dsimp only [zI, zL, aI, aL]
  repeat rw [if_neg (by omega)]
theorem sgX1_scout_rpW1 {σ : Sto} {w0 : Int32} {w1 : Int32} {w2 : Int32} {w3 : Int64} {w4 : Nat → Int32} {w5 : Nat → Int32} {w6 : Nat → Int64} {w7 : Nat → Int64} {w8 : Nat → Int64} {w9 : Nat → Int64} : (fun k => (sgX1_scout σ w0 w1 w2 w3 w4 w5 w6 w7 w8 w9).1 (8000 + 16 * k + 1)) = (fun k => σ.1 (8000 + 16 * k + 1)) := by
  funext k
  unfold sgX1_scout
  dsimp only [zI, zL, aI, aL]
  repeat rw [if_neg (by omega)]
theorem sgX1_scout_rpW2 {σ : Sto} {w0 : Int32} {w1 : Int32} {w2 : Int32} {w3 : Int64} {w4 : Nat → Int32} {w5 : Nat → Int32} {w6 : Nat → Int64} {w7 : Nat → Int64} {w8 : Nat → Int64} {w9 : Nat → Int64} : (fun k => (sgX1_scout σ w0 w1 w2 w3 w4 w5 w6 w7 w8 w9).1 (8000 + 16 * k + 2)) = (fun k => σ.1 (8000 + 16 * k + 2)) := by
  funext k
  unfold sgX1_scout
  dsimp only [zI, zL, aI, aL]
  repeat rw [if_neg (by omega)]
theorem sgX1_scout_rgG0 {σ : Sto} {w0 : Int32} {w1 : Int32} {w2 : Int32} {w3 : Int64} {w4 : Nat → Int32} {w5 : Nat → Int32} {w6 : Nat → Int64} {w7 : Nat → Int64} {w8 : Nat → Int64} {w9 : Nat → Int64} : (fun k => (sgX1_scout σ w0 w1 w2 w3 w4 w5 w6 w7 w8 w9).2.2.1 (4000 + 16 * k)) = (fun k => σ.2.2.1 (4000 + 16 * k)) := by
  funext k
  unfold sgX1_scout
  dsimp only [zI, zL, aI, aL]
  repeat rw [if_neg (by omega)]
abbrev rmX1_scout : Room := { frames := 49, cells := 0, slots := 0, locals := 1337 }
set_option maxHeartbeats 4000000 in
theorem wkX1_scout {x1 : Int32} {x2 : Int32} {r_ : Int64} {w_zI1018 : Int32} {w_zI1062 : Int32} {w_zI1082 : Int32} {w_zL1052 : Int64} {w_aI1108 : Nat → Int32} {w_aI1162 : Nat → Int32} {w_aL1140 : Nat → Int64} {w_aL1141 : Nat → Int64} {w_aL1150 : Nat → Int64} {w_aL1152 : Nat → Int64} (E : EN p s m args meth c0 RX1 cX1_scout 9 (Option.some Jvm.ClassFile.FieldType.long)) (hX : KX D G ad A s s.heap) (hD : XD dsc nr nw nu) (hA : ∀ q, PA dsc ad s.heap.size q → A q) (hf : xo_X1_scout (σ.1 1018) (σ.1 1062) (σ.1 1082) (σ.1 2008) (σ.1 2009) (σ.1 2012) (σ.1 2013) (σ.1 2027) (σ.1 2032) (σ.2.1 1052) (σ.2.1 1061) (σ.2.1 1081) (σ.2.2.1 1108) (σ.2.2.1 1162) (σ.2.2.1 1170) (σ.2.2.1 2036) (σ.2.2.1 2037) (σ.2.2.1 2042) (σ.2.2.1 2043) (σ.2.2.2.1 1140) (σ.2.2.2.1 1141) (σ.2.2.2.1 1150) (σ.2.2.2.1 1152) nr nw (fun k => σ.1 (6000 + 16 * k + 2)) (fun k => σ.1 (6000 + 16 * k + 3)) (fun k => σ.1 (6000 + 16 * k + 4)) (fun k => σ.1 (6000 + 16 * k + 5)) (fun k => σ.1 (6000 + 16 * k + 6)) (fun k => σ.1 (8000 + 16 * k + 0)) (fun k => σ.1 (8000 + 16 * k + 1)) (fun k => σ.1 (8000 + 16 * k + 2)) (fun k => σ.2.2.1 (4000 + 16 * k)) x1 x2 = some (r_, w_zI1018, w_zI1062, w_zI1082, w_zL1052, w_aI1108, w_aI1162, w_aL1140, w_aL1141, w_aL1150, w_aL1152)) (hQ : Q = MQ below (va_G1 (some (.long r_)) (fun t => PIC D clsA G dsc ad (sgX1_scout σ w_zI1018 w_zI1062 w_zI1082 w_zL1052 w_aI1108 w_aI1162 w_aL1140 w_aL1141 w_aL1150 w_aL1152) t.heap) A) args s 0 0 A) (hP : PIC D clsA G dsc ad σ H) (hS : va_S A s.heap H locs) (hl : lv_has ls 9 [(0, .ref (ad 1000)), (1, .int x1), (2, .int x2)]) : W p l e rmX1_scout s m args below meth c0 H locs 0 0 Q (F0 m 0 ls []) := by
  obtain ⟨⟨hx, hb, hml, hown, hts⟩, hr, hlk⟩ := id E
  have hP := hP.to (sgX1_scout_self σ).symm
  unfold xo_X1_scout at hf
  refine lv_iload_n hx hb dX1_scout_0 rfl (lv_at hl 1 rfl) ?_
  refine lv_iconst hx hb dX1_scout_1 ic_0 ?_
  refine lv_bipush hx hb dX1_scout_2 bp_99 ?_
  obtain ⟨v1, u2, hf⟩ := bdP hf
  refine cx_X1_143_X1_in E hX hD hP hS hA (kxX1_in l D G hD u2) ⟨rfl, rfl⟩ ⟨Nat.le_of_ble_eq_true rfl, Nat.le_of_ble_eq_true rfl⟩ ⟨Nat.zero_le _, Nat.zero_le _⟩ hl.1 (Nat.le_of_ble_eq_true rfl) dX1_scout_4 (fun H locs hP hS => ?_)
  have J29 : xo_X1_scout_J29 (σ.1 1018) (σ.1 1062) (σ.1 1082) (σ.2.1 1052) (σ.2.2.1 1108) (σ.2.2.1 1162) (σ.2.2.2.1 1140) (σ.2.2.2.1 1141) (σ.2.2.2.1 1150) (σ.2.2.2.1 1152) = some (r_, w_zI1018, w_zI1062, w_zI1082, w_zL1052, w_aI1108, w_aI1162, w_aL1140, w_aL1141, w_aL1150, w_aL1152) → ∀ (H : Heap) (locs : List Loc), PIC D clsA G dsc ad (sgX1_scout σ (σ.1 1018) (σ.1 1062) (σ.1 1082) (σ.2.1 1052) (σ.2.2.1 1108) (σ.2.2.1 1162) (σ.2.2.2.1 1140) (σ.2.2.2.1 1141) (σ.2.2.2.1 1150) (σ.2.2.2.1 1152)) H → va_S A s.heap H locs → ∀ (ls : Array Slot), lv_has ls 9 [] → W p l e rmX1_scout s m args below meth c0 H locs 0 0 Q (F0 m 29 ls []) := by
    intro  hf H locs hP hS ls hl
    unfold xo_X1_scout_J29 at hf
    refine lv_ldc2 hx hb hown (hts _ q996) dX1_scout_29 ?_
    cases hf
    rw [hQ]; exact g_lret hx hb hr hlk hP hS dX1_scout_32
  refine lv_if_eq (tgt := 29) hx hb dX1_scout_7 (by decide) (fun c3 => ?_) (fun c3 => ?_)
  · have hf := ifT c3 hf
    exact J29  hf H locs hP hS ls (lv_sub hl [] rfl)
  · have hf := ifF c3 hf
    refine lv_iload_n hx hb dX1_scout_10 rfl (lv_at hl 2 rfl) ?_
    refine lv_iconst hx hb dX1_scout_11 ic_0 ?_
    refine lv_iconst hx hb dX1_scout_12 ic_1 ?_
    obtain ⟨v4, u5, hf⟩ := bdP hf
    refine cx_X1_143_X1_in E hX hD hP hS hA (kxX1_in l D G hD u5) ⟨rfl, rfl⟩ ⟨Nat.le_of_ble_eq_true rfl, Nat.le_of_ble_eq_true rfl⟩ ⟨Nat.zero_le _, Nat.zero_le _⟩ hl.1 (Nat.le_of_ble_eq_true rfl) dX1_scout_13 (fun H locs hP hS => ?_)
    refine lv_if_eq (tgt := 29) hx hb dX1_scout_16 (by decide) (fun c6 => ?_) (fun c6 => ?_)
    · have hf := ifT c6 hf
      exact J29  hf H locs hP hS ls (lv_sub hl [] rfl)
    · have hf := ifF c6 hf
      refine lv_aload_n hx hb dX1_scout_19 rfl (lv_at hl 0 rfl) ?_
      refine gx_X1_33_1000 E hX hD hP dX1_scout_20 ?_
      obtain ⟨v7, u8, hf⟩ := bdP hf
      refine cx_X1_231_X3_isWhole E hX hD hP hS hA (kxX3_isWhole l D G hD sgX1_scout_rzI2012 sgX1_scout_rzI2013 u8) ⟨rfl, rfl⟩ ⟨Nat.le_of_ble_eq_true rfl, Nat.le_of_ble_eq_true rfl⟩ ⟨Nat.zero_le _, Nat.zero_le _⟩ hl.1 (Nat.le_of_ble_eq_true rfl) dX1_scout_23 (fun H locs hP hS => ?_)
      refine lv_if_ne (tgt := 33) hx hb dX1_scout_26 (by decide) (fun c9 => ?_) (fun c9 => ?_)
      · have hf := ifF c9 hf
        refine lv_aload_n hx hb dX1_scout_33 rfl (lv_at hl 0 rfl) ?_
        obtain ⟨⟨z10, z11, z12, z13, a14, a15, a16, a17, a18, a19⟩, u20, hf⟩ := bdP hf
        dsimp only at hf
        refine cx_X1_276_X1_lay E hX hD hP hS hA (kxX1_lay l D G hD sgX1_scout_rzI1018 sgX1_scout_rzI1062 sgX1_scout_rzI1082 sgX1_scout_rzI2008 sgX1_scout_rzI2009 sgX1_scout_rzI2012 sgX1_scout_rzI2013 sgX1_scout_rzI2027 sgX1_scout_rzI2032 sgX1_scout_rzL1052 sgX1_scout_rzL1061 sgX1_scout_rzL1081 sgX1_scout_raI1108 sgX1_scout_raI1162 sgX1_scout_raI1170 sgX1_scout_raI2036 sgX1_scout_raI2037 sgX1_scout_raI2042 sgX1_scout_raI2043 sgX1_scout_raL1140 sgX1_scout_raL1141 sgX1_scout_raL1150 sgX1_scout_raL1152 rfl rfl sgX1_scout_rpR2 sgX1_scout_rpR3 sgX1_scout_rpR4 sgX1_scout_rpR5 sgX1_scout_rpR6 sgX1_scout_rpW0 sgX1_scout_rpW1 sgX1_scout_rpW2 sgX1_scout_rgG0 u20) ⟨rfl, rfl⟩ ⟨Nat.le_of_ble_eq_true rfl, Nat.le_of_ble_eq_true rfl⟩ ⟨Nat.zero_le _, Nat.zero_le _⟩ hl.1 (Nat.le_of_ble_eq_true rfl) dX1_scout_34 (fun H locs hP hS => ?_)
        rw [sgX1_scout_zI1018, sgX1_scout_zI1062, sgX1_scout_zI1082, sgX1_scout_zL1052, sgX1_scout_aI1108, sgX1_scout_aI1162, sgX1_scout_aL1140, sgX1_scout_aL1141, sgX1_scout_aL1150, sgX1_scout_aL1152] at hP
        refine lv_ldc2 hx hb hown (hts _ q1335) dX1_scout_37 ?_
        refine lv_lstore_n (lv' := [(3, .long (-2)), (0, .ref (ad 1000)), (1, .int x1), (2, .int x2)]) hx hb dX1_scout_40 rfl hl (by decide) rfl (fun ls hl => ?_)
        refine lv_iconst hx hb dX1_scout_41 ic_0 ?_
        refine lv_istore (lv' := [(5, .int 0), (3, .long (-2)), (0, .ref (ad 1000)), (1, .int x1), (2, .int x2)]) hx hb dX1_scout_42 hl (by decide) rfl (fun ls hl => ?_)
        refine lv_iconst hx hb dX1_scout_44 ic_0 ?_
        refine lv_istore (lv' := [(6, .int 0), (5, .int 0), (3, .long (-2)), (0, .ref (ad 1000)), (1, .int x1), (2, .int x2)]) hx hb dX1_scout_45 hl (by decide) rfl (fun ls hl => ?_)
        have LP47 : ∀ (st47 : Int64 × Int32 × Int32) (ex47 : (Int64 × Int32)), loop (xo_X1_scout_L47 (σ.1 2012) (σ.1 2013) (σ.1 2027) (σ.2.1 1061) (σ.2.2.1 1170) (σ.2.2.1 2043) x1 z11 z13 a17 a18) st47 = some ex47 → ∀ (H : Heap) (locs : List Loc), PIC D clsA G dsc ad (sgX1_scout σ z10 z11 z12 z13 a14 a15 a16 a17 a18 a19) H → va_S A s.heap H locs → ∀ (ls : Array Slot), lv_has ls 9 [(0, .ref (ad 1000)), (1, .int x1), (2, .int x2), (3, .long (st47.1)), (5, .int (st47.2.1)), (6, .int (st47.2.2))] → (∀ (y44 : Int64) (y45 : Int32), ex47 = (y44, y45) → ∀ (H : Heap) (locs : List Loc), PIC D clsA G dsc ad (sgX1_scout σ z10 z11 z12 z13 a14 a15 a16 a17 a18 a19) H → va_S A s.heap H locs → ∀ (ls : Array Slot), lv_has ls 9 [(2, .int x2), (3, .long y44), (5, .int y45)] → W p l e rmX1_scout s m args below meth c0 H locs 0 0 Q (F0 m 156 ls [])) → W p l e rmX1_scout s m args below meth c0 H locs 0 0 Q (F0 m 47 ls []) := by
          refine loop_P (fun st47 ex47 o47 hf ih47 hx47 => ?_)
          obtain ⟨y21, y22, y23⟩ := st47
          intro H locs (hP : PIC D clsA G dsc ad (sgX1_scout σ z10 z11 z12 z13 a14 a15 a16 a17 a18 a19) H) hS ls (hl : lv_has ls 9 [(0, .ref (ad 1000)), (1, .int x1), (2, .int x2), (3, .long y21), (5, .int y22), (6, .int y23)]) KE47_0
          dsimp only [xo_X1_scout_L47] at hf
          refine lv_iload hx hb dX1_scout_47 (lv_at hl 5 rfl) ?_
          refine lv_aload_n hx hb dX1_scout_49 rfl (lv_at hl 0 rfl) ?_
          refine gx_X1_33_1000 E hX hD hP dX1_scout_50 ?_
          obtain ⟨v24, u25, hf⟩ := bdP hf
          refine cx_X1_239_X3_worlds E hX hD hP hS hA (kxX3_worlds l D G hD sgX1_scout_rzI2027 u25) ⟨rfl, rfl⟩ ⟨Nat.le_of_ble_eq_true rfl, Nat.le_of_ble_eq_true rfl⟩ ⟨Nat.zero_le _, Nat.zero_le _⟩ hl.1 (Nat.le_of_ble_eq_true rfl) dX1_scout_53 (fun H locs hP hS => ?_)
          refine lv_icmp_ge (tgt := 156) hx hb dX1_scout_56 (by decide) (fun c26 => ?_) (fun c26 => ?_)
          · have hf := ifT c26 hf
            exact KE47_0 _ _ (hx47 _ (Option.some.inj hf).symm).symm H locs hP hS ls (lv_sub hl [2, 3, 4] rfl)
          · have hf := ifF c26 hf
            refine lv_aload_n hx hb dX1_scout_59 rfl (lv_at hl 0 rfl) ?_
            refine lv_iload hx hb dX1_scout_60 (lv_at hl 5 rfl) ?_
            obtain ⟨v27, u28, hf⟩ := bdP hf
            refine cx_X1_417_X1_ahead E hX hD hP hS hA (kxX1_ahead l D G hD sgX1_scout_rzI1062 sgX1_scout_rzI2012 sgX1_scout_rzI2013 sgX1_scout_rzI2027 sgX1_scout_rzL1061 sgX1_scout_raI1170 sgX1_scout_raI2043 sgX1_scout_raL1141 sgX1_scout_raL1150 u28) ⟨rfl, rfl⟩ ⟨Nat.le_of_ble_eq_true rfl, Nat.le_of_ble_eq_true rfl⟩ ⟨Nat.zero_le _, Nat.zero_le _⟩ hl.1 (Nat.le_of_ble_eq_true rfl) dX1_scout_62 (fun H locs hP hS => ?_)
            refine lv_lstore (lv' := [(7, .long v27), (0, .ref (ad 1000)), (1, .int x1), (2, .int x2), (3, .long y21), (5, .int y22), (6, .int y23)]) hx hb dX1_scout_65 hl (by decide) rfl (fun ls hl => ?_)
            refine lv_lload hx hb dX1_scout_67 (lv_at hl 0 rfl) ?_
            refine lv_aload_n hx hb dX1_scout_69 rfl (lv_at hl 1 rfl) ?_
            refine gx_X1_53_1000 E hX hD hP dX1_scout_70 ?_
            refine gx_X1_421_1060 (v := (σ.2.1 1061)) E hX hD hP sgX1_scout_rzL1061 dX1_scout_73 ?_
            refine W.lcmp hx hb dX1_scout_76 ?_
            have J150 : ∀ (y29 : Int64) (y30 : Int32), xo_X1_scout_J150 y23 y29 y30 = some o47 → ∀ (H : Heap) (locs : List Loc), PIC D clsA G dsc ad (sgX1_scout σ z10 z11 z12 z13 a14 a15 a16 a17 a18 a19) H → va_S A s.heap H locs → ∀ (ls : Array Slot), lv_has ls 9 [(0, .ref (ad 1000)), (1, .int x1), (2, .int x2), (3, .long y29), (5, .int y30), (6, .int y23)] → W p l e rmX1_scout s m args below meth c0 H locs 0 0 Q (F0 m 150 ls []) := by
              intro y29 y30 hf H locs hP hS ls hl
              unfold xo_X1_scout_J150 at hf
              obtain ⟨v31, hv31, hf⟩ := bdP hf
              refine lv_iinc (v := v31) (lv' := [(6, .int v31), (0, .ref (ad 1000)), (1, .int x1), (2, .int x2), (3, .long y29), (5, .int y30)]) hx hb dX1_scout_150 hl (k := 5) rfl (Option.some.inj hv31) (by decide) rfl (fun ls hl => ?_)
              refine lv_goto (tgt := 47) hx hb dX1_scout_153 (by decide) ?_
              exact ih47 _ (Option.some.inj hf).symm H locs hP hS ls (lv_sub hl [1, 2, 3, 4, 5, 0] rfl) KE47_0
            refine lv_if_ne (tgt := 83) hx hb dX1_scout_77 (by decide) (fun c32 => ?_) (fun c32 => ?_)
            · have hf := ifF (mt (lgc_eq _ _).mpr c32) hf
              refine lv_lload hx hb dX1_scout_83 (lv_at hl 0 rfl) ?_
              refine lv_iload hx hb dX1_scout_85 (lv_at hl 6 rfl) ?_
              obtain ⟨v33, u34, hf⟩ := bdP hf
              refine cx_X1_422_J17_bitCount E hX hD hP hS hA (kxJ17_bitCount l D G hD u34) ⟨rfl, rfl⟩ ⟨Nat.le_of_ble_eq_true rfl, Nat.le_of_ble_eq_true rfl⟩ ⟨Nat.zero_le _, Nat.zero_le _⟩ hl.1 (Nat.le_of_ble_eq_true rfl) dX1_scout_87 (fun H locs hP hS => ?_)
              refine lv_i2l hx hb dX1_scout_90 rfl ?_
              refine lv_iload_n hx hb dX1_scout_91 rfl (lv_at hl 2 rfl) ?_
              refine lv_i2l hx hb dX1_scout_92 rfl ?_
              refine lv_lmul hx hb dX1_scout_93 ?_
              refine lv_aload_n hx hb dX1_scout_94 rfl (lv_at hl 1 rfl) ?_
              refine gx_X1_40_1000 E hX hD hP dX1_scout_95 ?_
              refine gx_X1_425_1050 (v := z13) E hX hD hP sgX1_scout_rzL1052 dX1_scout_98 ?_
              refine lv_lmul hx hb dX1_scout_101 ?_
              refine lv_ladd hx hb dX1_scout_102 ?_
              obtain ⟨v35, hv35, hf⟩ := bdP hf
              refine nm_l (Option.some.inj hv35) ?_
              refine lv_lstore (lv' := [(7, .long v35), (0, .ref (ad 1000)), (1, .int x1), (2, .int x2), (3, .long y21), (5, .int y22), (6, .int y23)]) hx hb dX1_scout_103 hl (by decide) rfl (fun ls hl => ?_)
              refine lv_lload_n hx hb dX1_scout_105 rfl (lv_at hl 4 rfl) ?_
              refine lv_ldc2 hx hb hown (hts _ q1335) dX1_scout_106 ?_
              refine W.lcmp hx hb dX1_scout_109 ?_
              have J143 : xo_X1_scout_J143 y23 v35 = some o47 → ∀ (H : Heap) (locs : List Loc), PIC D clsA G dsc ad (sgX1_scout σ z10 z11 z12 z13 a14 a15 a16 a17 a18 a19) H → va_S A s.heap H locs → ∀ (ls : Array Slot), lv_has ls 9 [(0, .ref (ad 1000)), (1, .int x1), (2, .int x2), (6, .int y23), (7, .long v35)] → W p l e rmX1_scout s m args below meth c0 H locs 0 0 Q (F0 m 143 ls []) := by
                intro  hf H locs hP hS ls hl
                unfold xo_X1_scout_J143 at hf
                refine lv_lload hx hb dX1_scout_143 (lv_at hl 4 rfl) ?_
                refine lv_lstore_n (lv' := [(3, .long v35), (0, .ref (ad 1000)), (1, .int x1), (2, .int x2), (6, .int y23), (7, .long v35)]) hx hb dX1_scout_145 rfl hl (by decide) rfl (fun ls hl => ?_)
                refine lv_iload hx hb dX1_scout_146 (lv_at hl 4 rfl) ?_
                refine lv_istore (lv' := [(5, .int y23), (3, .long v35), (0, .ref (ad 1000)), (1, .int x1), (2, .int x2), (6, .int y23), (7, .long v35)]) hx hb dX1_scout_148 hl (by decide) rfl (fun ls hl => ?_)
                exact J150 v35 y23 hf H locs hP hS ls (lv_sub hl [2, 3, 4, 1, 0, 5] rfl)
              refine lv_if_eq (tgt := 143) hx hb dX1_scout_110 (by decide) (fun c36 => ?_) (fun c36 => ?_)
              · have hf := ifT ((lgc_eq _ _).mp c36) hf
                exact J143  hf H locs hP hS ls (lv_sub hl [1, 2, 3, 6, 0] rfl)
              · have hf := ifF (mt (lgc_eq _ _).mpr c36) hf
                refine lv_lload hx hb dX1_scout_113 (lv_at hl 0 rfl) ?_
                refine lv_lload_n hx hb dX1_scout_115 rfl (lv_at hl 4 rfl) ?_
                refine W.lcmp hx hb dX1_scout_116 ?_
                refine lv_if_gt (tgt := 150) hx hb dX1_scout_117 (by decide) (fun c37 => ?_) (fun c37 => ?_)
                · have hf := ifT ((lgc_gt _ _).mp c37) hf
                  exact J150 y21 y22 hf H locs hP hS ls (lv_sub hl [1, 2, 3, 4, 5, 6] rfl)
                · have hf := ifF (mt (lgc_gt _ _).mpr c37) hf
                  refine lv_lload hx hb dX1_scout_120 (lv_at hl 0 rfl) ?_
                  refine lv_lload_n hx hb dX1_scout_122 rfl (lv_at hl 4 rfl) ?_
                  refine W.lcmp hx hb dX1_scout_123 ?_
                  refine lv_if_ne (tgt := 143) hx hb dX1_scout_124 (by decide) (fun c38 => ?_) (fun c38 => ?_)
                  · have hf := ifF (mt (lgc_eq _ _).mpr c38) hf
                    exact J143  hf H locs hP hS ls (lv_sub hl [1, 2, 3, 6, 0] rfl)
                  · have hf := ifT ((lgc_eq _ _).mp c38) hf
                    refine lv_iload hx hb dX1_scout_127 (lv_at hl 6 rfl) ?_
                    obtain ⟨v39, u40, hf⟩ := bdP hf
                    refine cx_X1_422_J17_bitCount E hX hD hP hS hA (kxJ17_bitCount l D G hD u40) ⟨rfl, rfl⟩ ⟨Nat.le_of_ble_eq_true rfl, Nat.le_of_ble_eq_true rfl⟩ ⟨Nat.zero_le _, Nat.zero_le _⟩ hl.1 (Nat.le_of_ble_eq_true rfl) dX1_scout_129 (fun H locs hP hS => ?_)
                    refine lv_iload hx hb dX1_scout_132 (lv_at hl 5 rfl) ?_
                    obtain ⟨v41, u42, hf⟩ := bdP hf
                    refine cx_X1_422_J17_bitCount E hX hD hP hS hA (kxJ17_bitCount l D G hD u42) ⟨rfl, rfl⟩ ⟨Nat.le_of_ble_eq_true rfl, Nat.le_of_ble_eq_true rfl⟩ ⟨Nat.zero_le _, Nat.zero_le _⟩ hl.1 (Nat.le_of_ble_eq_true rfl) dX1_scout_134 (fun H locs hP hS => ?_)
                    refine lv_icmp_lt (tgt := 143) hx hb dX1_scout_137 (by decide) (fun c43 => ?_) (fun c43 => ?_)
                    · have hf := ifT c43 hf
                      exact J143  hf H locs hP hS ls (lv_sub hl [1, 2, 3, 6, 0] rfl)
                    · have hf := ifF c43 hf
                      refine lv_goto (tgt := 150) hx hb dX1_scout_140 (by decide) ?_
                      exact J150 y21 y22 hf H locs hP hS ls (lv_sub hl [1, 2, 3, 4, 5, 6] rfl)
            · have hf := ifT ((lgc_eq _ _).mp c32) hf
              refine lv_goto (tgt := 150) hx hb dX1_scout_80 (by decide) ?_
              exact J150 y21 y22 hf H locs hP hS ls (lv_sub hl [1, 2, 3, 4, 5, 6] rfl)
        obtain ⟨ex47, hlp47, hf⟩ := bdP hf
        refine LP47 ((-2), 0, 0) ex47 hlp47 H locs hP hS ls (lv_sub hl [3, 4, 5, 2, 1, 0] rfl) ?_
        intro y44 y45 hex47 H locs hP hS ls hl
        subst ex47
        dsimp only at hf
        refine lv_lload_n hx hb dX1_scout_156 rfl (lv_at hl 1 rfl) ?_
        refine lv_ldc2 hx hb hown (hts _ q1335) dX1_scout_157 ?_
        refine W.lcmp hx hb dX1_scout_160 ?_
        refine lv_if_ne (tgt := 170) hx hb dX1_scout_161 (by decide) (fun c46 => ?_) (fun c46 => ?_)
        · have hf := ifF (mt (lgc_eq _ _).mpr c46) hf
          refine lv_iload_n hx hb dX1_scout_170 rfl (lv_at hl 0 rfl) ?_
          refine lv_if_ne (tgt := 180) hx hb dX1_scout_171 (by decide) (fun c47 => ?_) (fun c47 => ?_)
          · have hf := ifF c47 hf
            refine lv_lload_n hx hb dX1_scout_180 rfl (lv_at hl 1 rfl) ?_
            cases hf
            rw [hQ]; exact g_lret hx hb hr hlk hP hS dX1_scout_181
          · have hf := ifT c47 hf
            refine lv_iload hx hb dX1_scout_174 (lv_at hl 2 rfl) ?_
            refine lv_i2l hx hb dX1_scout_176 rfl ?_
            refine lv_goto (tgt := 181) hx hb dX1_scout_177 (by decide) ?_
            cases hf
            rw [hQ]; exact g_lret hx hb hr hlk hP hS dX1_scout_181
        · have hf := ifT ((lgc_eq _ _).mp c46) hf
          refine lv_ldc2 hx hb hown (hts _ q1335) dX1_scout_164 ?_
          refine lv_goto (tgt := 181) hx hb dX1_scout_167 (by decide) ?_
          cases hf
          rw [hQ]; exact g_lret hx hb hr hlk hP hS dX1_scout_181
      · have hf := ifT c9 hf
        exact J29  hf H locs hP hS ls (lv_sub hl [] rfl)
theorem kxX1_scout (l : Launch) (D : va_G) (G : Nat → ClassId) {dsc : Nat → Option Dsc} {ad : Nat → Nat} {σ : Sto} {nr nw nu : Nat} (hD : XD dsc nr nw nu) {x1 : Int32} {x2 : Int32} {r_ : Int64} {w_zI1018 : Int32} {w_zI1062 : Int32} {w_zI1082 : Int32} {w_zL1052 : Int64} {w_aI1108 : Nat → Int32} {w_aI1162 : Nat → Int32} {w_aL1140 : Nat → Int64} {w_aL1141 : Nat → Int64} {w_aL1150 : Nat → Int64} {w_aL1152 : Nat → Int64} {z_X_isLaid : Int32} (e_zI1018 : σ.1 1018 = z_X_isLaid) {z_TB_by : Int32} (e_zI1062 : σ.1 1062 = z_TB_by) {z_TS_by : Int32} (e_zI1082 : σ.1 1082 = z_TS_by) {z_L_places : Int32} (e_zI2008 : σ.1 2008 = z_L_places) {z_L_causes : Int32} (e_zI2009 : σ.1 2009 = z_L_causes) {z_L_from : Int32} (e_zI2012 : σ.1 2012 = z_L_from) {z_L_to : Int32} (e_zI2013 : σ.1 2013 = z_L_to) {z_Ld_size : Int32} (e_zI2027 : σ.1 2027 = z_Ld_size) {z_Lw_size : Int32} (e_zI2032 : σ.1 2032 = z_Lw_size) {z_W_all : Int64} (e_zL1052 : σ.2.1 1052 = z_W_all) {z_TB_none : Int64} (e_zL1061 : σ.2.1 1061 = z_TB_none) {z_TS_none : Int64} (e_zL1081 : σ.2.1 1081 = z_TS_none) {a_X_knowing : Nat → Int32} (e_aI1108 : σ.2.2.1 1108 = a_X_knowing) {a_p3_far : Nat → Int32} (e_aI1162 : σ.2.2.1 1162 = a_p3_far) {a_UNIT : Nat → Int32} (e_aI1170 : σ.2.2.1 1170 = a_UNIT) {a_Ld_data : Nat → Int32} (e_aI2036 : σ.2.2.1 2036 = a_Ld_data) {a_Lw_data : Nat → Int32} (e_aI2037 : σ.2.2.1 2037 = a_Lw_data) {a_L_comes : Nat → Int32} (e_aI2042 : σ.2.2.1 2042 = a_L_comes) {a_L_seen : Nat → Int32} (e_aI2043 : σ.2.2.1 2043 = a_L_seen) {a_W_world : Nat → Int64} (e_aL1140 : σ.2.2.2.1 1140 = a_W_world) {a_W_likely : Nat → Int64} (e_aL1141 : σ.2.2.2.1 1141 = a_W_likely) {a_TB_value : Nat → Int64} (e_aL1150 : σ.2.2.2.1 1150 = a_TB_value) {a_TS_value : Nat → Int64} (e_aL1152 : σ.2.2.2.1 1152 = a_TS_value) {n_r : Nat} (e_nN0 : nr = n_r) {n_w : Nat} (e_nN1 : nw = n_w) {p_road_hours : Nat → Int32} (e_pR2 : (fun k => σ.1 (6000 + 16 * k + 2)) = p_road_hours) {p_road_doubt : Nat → Int32} (e_pR3 : (fun k => σ.1 (6000 + 16 * k + 3)) = p_road_doubt) {p_road_cause : Nat → Int32} (e_pR4 : (fun k => σ.1 (6000 + 16 * k + 4)) = p_road_cause) {p_road_wait : Nat → Int32} (e_pR5 : (fun k => σ.1 (6000 + 16 * k + 5)) = p_road_wait) {p_road_number : Nat → Int32} (e_pR6 : (fun k => σ.1 (6000 + 16 * k + 6)) = p_road_number) {p_word_place : Nat → Int32} (e_pW0 : (fun k => σ.1 (8000 + 16 * k + 0)) = p_word_place) {p_word_road : Nat → Int32} (e_pW1 : (fun k => σ.1 (8000 + 16 * k + 1)) = p_word_road) {p_word_hours : Nat → Int32} (e_pW2 : (fun k => σ.1 (8000 + 16 * k + 2)) = p_word_hours) {g_grid : Nat → Nat → Int32} (e_gG0 : (fun k => σ.2.2.1 (4000 + 16 * k)) = g_grid) (hf : xo_X1_scout z_X_isLaid z_TB_by z_TS_by z_L_places z_L_causes z_L_from z_L_to z_Ld_size z_Lw_size z_W_all z_TB_none z_TS_none a_X_knowing a_p3_far a_UNIT a_Ld_data a_Lw_data a_L_comes a_L_seen a_W_world a_W_likely a_TB_value a_TS_value n_r n_w p_road_hours p_road_doubt p_road_cause p_road_wait p_road_number p_word_place p_word_road p_word_hours g_grid x1 x2 = some (r_, w_zI1018, w_zI1062, w_zI1082, w_zL1052, w_aI1108, w_aI1162, w_aL1140, w_aL1141, w_aL1150, w_aL1152)) : CtG l D G dsc ad yX1_scout (ws_ yX1_scout cX1_scout 9 (Option.some Jvm.ClassFile.FieldType.long)) rmX1_scout [.ref (ad 1000), .int x1, .int x2] σ (some (.long r_)) (aL (aL (aL (aL (aI (aI (zL (zI (zI (zI σ 1018 w_zI1018) 1062 w_zI1062) 1082 w_zI1082) 1052 w_zL1052) 1108 w_aI1108) 1162 w_aI1162) 1140 w_aL1140) 1141 w_aL1141) 1150 w_aL1150) 1152 w_aL1152) := by
  subst e_zI1018
  subst e_zI1062
  subst e_zI1082
  subst e_zI2008
  subst e_zI2009
  subst e_zI2012
  subst e_zI2013
  subst e_zI2027
  subst e_zI2032
  subst e_zL1052
  subst e_zL1061
  subst e_zL1081
  subst e_aI1108
  subst e_aI1162
  subst e_aI1170
  subst e_aI2036
  subst e_aI2037
  subst e_aI2042
  subst e_aI2043
  subst e_aL1140
  subst e_aL1141
  subst e_aL1150
  subst e_aL1152
  subst e_nN0
  subst e_nN1
  subst e_pR2
  subst e_pR3
  subst e_pR4
  subst e_pR5
  subst e_pR6
  subst e_pW0
  subst e_pW1
  subst e_pW2
  subst e_gG0
  exact p_ctG (by decide +kernel) (Nat.le_of_ble_eq_true rfl) (fun p e s m below meth c0 ls A E hP hX hA hS hl => wkX1_scout E hX hD hA hf rfl hP hS hl)
/-! X1_shut (II)J -/
def sgX1_shut (σ : Sto) (w0 : Int32) (w1 : Int32) (w2 : Int32) (w3 : Int64) (w4 : Nat → Int32) (w5 : Nat → Int32) (w6 : Nat → Int64) (w7 : Nat → Int64) (w8 : Nat → Int64) (w9 : Nat → Int64) : Sto := aL (aL (aL (aL (aI (aI (zL (zI (zI (zI σ 1018 w0) 1062 w1) 1082 w2) 1052 w3) 1108 w4) 1162 w5) 1140 w6) 1141 w7) 1150 w8) 1152 w9
theorem sgX1_shut_self (σ : Sto) : sgX1_shut σ (σ.1 1018) (σ.1 1062) (σ.1 1082) (σ.2.1 1052) (σ.2.2.1 1108) (σ.2.2.1 1162) (σ.2.2.2.1 1140) (σ.2.2.2.1 1141) (σ.2.2.2.1 1150) (σ.2.2.2.1 1152) = σ := by
  unfold sgX1_shut
  simp only [zI_self, zL_self, aI_self, aL_self]
theorem sgX1_shut_zI1018 {σ : Sto} {w0 : Int32} {w1 : Int32} {w2 : Int32} {w3 : Int64} {w4 : Nat → Int32} {w5 : Nat → Int32} {w6 : Nat → Int64} {w7 : Nat → Int64} {w8 : Nat → Int64} {w9 : Nat → Int64} {g : Int32} : zI (sgX1_shut σ w0 w1 w2 w3 w4 w5 w6 w7 w8 w9) 1018 g = sgX1_shut σ g w1 w2 w3 w4 w5 w6 w7 w8 w9 := (cm_zI_aL _ _ _ _ _).trans (congrArg (fun z => aL z 1152 w9) ((cm_zI_aL _ _ _ _ _).trans (congrArg (fun z => aL z 1150 w8) ((cm_zI_aL _ _ _ _ _).trans (congrArg (fun z => aL z 1141 w7) ((cm_zI_aL _ _ _ _ _).trans (congrArg (fun z => aL z 1140 w6) ((cm_zI_aI _ _ _ _ _).trans (congrArg (fun z => aI z 1162 w5) ((cm_zI_aI _ _ _ _ _).trans (congrArg (fun z => aI z 1108 w4) ((cm_zI_zL _ _ _ _ _).trans (congrArg (fun z => zL z 1052 w3) ((zI_comm _ (by decide) _ _).trans (congrArg (fun z => zI z 1082 w2) ((zI_comm _ (by decide) _ _).trans (congrArg (fun z => zI z 1062 w1) (zI_zI _ 1018 _ _))))))))))))))))))
theorem sgX1_shut_zI1062 {σ : Sto} {w0 : Int32} {w1 : Int32} {w2 : Int32} {w3 : Int64} {w4 : Nat → Int32} {w5 : Nat → Int32} {w6 : Nat → Int64} {w7 : Nat → Int64} {w8 : Nat → Int64} {w9 : Nat → Int64} {g : Int32} : zI (sgX1_shut σ w0 w1 w2 w3 w4 w5 w6 w7 w8 w9) 1062 g = sgX1_shut σ w0 g w2 w3 w4 w5 w6 w7 w8 w9 := (cm_zI_aL _ _ _ _ _).trans (congrArg (fun z => aL z 1152 w9) ((cm_zI_aL _ _ _ _ _).trans (congrArg (fun z => aL z 1150 w8) ((cm_zI_aL _ _ _ _ _).trans (congrArg (fun z => aL z 1141 w7) ((cm_zI_aL _ _ _ _ _).trans (congrArg (fun z => aL z 1140 w6) ((cm_zI_aI _ _ _ _ _).trans (congrArg (fun z => aI z 1162 w5) ((cm_zI_aI _ _ _ _ _).trans (congrArg (fun z => aI z 1108 w4) ((cm_zI_zL _ _ _ _ _).trans (congrArg (fun z => zL z 1052 w3) ((zI_comm _ (by decide) _ _).trans (congrArg (fun z => zI z 1082 w2) (zI_zI _ 1062 _ _))))))))))))))))
theorem sgX1_shut_zI1082 {σ : Sto} {w0 : Int32} {w1 : Int32} {w2 : Int32} {w3 : Int64} {w4 : Nat → Int32} {w5 : Nat → Int32} {w6 : Nat → Int64} {w7 : Nat → Int64} {w8 : Nat → Int64} {w9 : Nat → Int64} {g : Int32} : zI (sgX1_shut σ w0 w1 w2 w3 w4 w5 w6 w7 w8 w9) 1082 g = sgX1_shut σ w0 w1 g w3 w4 w5 w6 w7 w8 w9 := (cm_zI_aL _ _ _ _ _).trans (congrArg (fun z => aL z 1152 w9) ((cm_zI_aL _ _ _ _ _).trans (congrArg (fun z => aL z 1150 w8) ((cm_zI_aL _ _ _ _ _).trans (congrArg (fun z => aL z 1141 w7) ((cm_zI_aL _ _ _ _ _).trans (congrArg (fun z => aL z 1140 w6) ((cm_zI_aI _ _ _ _ _).trans (congrArg (fun z => aI z 1162 w5) ((cm_zI_aI _ _ _ _ _).trans (congrArg (fun z => aI z 1108 w4) ((cm_zI_zL _ _ _ _ _).trans (congrArg (fun z => zL z 1052 w3) (zI_zI _ 1082 _ _))))))))))))))
theorem sgX1_shut_zL1052 {σ : Sto} {w0 : Int32} {w1 : Int32} {w2 : Int32} {w3 : Int64} {w4 : Nat → Int32} {w5 : Nat → Int32} {w6 : Nat → Int64} {w7 : Nat → Int64} {w8 : Nat → Int64} {w9 : Nat → Int64} {g : Int64} : zL (sgX1_shut σ w0 w1 w2 w3 w4 w5 w6 w7 w8 w9) 1052 g = sgX1_shut σ w0 w1 w2 g w4 w5 w6 w7 w8 w9 := (cm_zL_aL _ _ _ _ _).trans (congrArg (fun z => aL z 1152 w9) ((cm_zL_aL _ _ _ _ _).trans (congrArg (fun z => aL z 1150 w8) ((cm_zL_aL _ _ _ _ _).trans (congrArg (fun z => aL z 1141 w7) ((cm_zL_aL _ _ _ _ _).trans (congrArg (fun z => aL z 1140 w6) ((cm_zL_aI _ _ _ _ _).trans (congrArg (fun z => aI z 1162 w5) ((cm_zL_aI _ _ _ _ _).trans (congrArg (fun z => aI z 1108 w4) (zL_zL _ 1052 _ _))))))))))))
theorem sgX1_shut_aI1108 {σ : Sto} {w0 : Int32} {w1 : Int32} {w2 : Int32} {w3 : Int64} {w4 : Nat → Int32} {w5 : Nat → Int32} {w6 : Nat → Int64} {w7 : Nat → Int64} {w8 : Nat → Int64} {w9 : Nat → Int64} {g : Nat → Int32} : aI (sgX1_shut σ w0 w1 w2 w3 w4 w5 w6 w7 w8 w9) 1108 g = sgX1_shut σ w0 w1 w2 w3 g w5 w6 w7 w8 w9 := (cm_aI_aL _ _ _ _ _).trans (congrArg (fun z => aL z 1152 w9) ((cm_aI_aL _ _ _ _ _).trans (congrArg (fun z => aL z 1150 w8) ((cm_aI_aL _ _ _ _ _).trans (congrArg (fun z => aL z 1141 w7) ((cm_aI_aL _ _ _ _ _).trans (congrArg (fun z => aL z 1140 w6) ((aI_comm _ (by decide) _ _).trans (congrArg (fun z => aI z 1162 w5) (aI_aI _ 1108 _ _))))))))))
theorem sgX1_shut_aI1162 {σ : Sto} {w0 : Int32} {w1 : Int32} {w2 : Int32} {w3 : Int64} {w4 : Nat → Int32} {w5 : Nat → Int32} {w6 : Nat → Int64} {w7 : Nat → Int64} {w8 : Nat → Int64} {w9 : Nat → Int64} {g : Nat → Int32} : aI (sgX1_shut σ w0 w1 w2 w3 w4 w5 w6 w7 w8 w9) 1162 g = sgX1_shut σ w0 w1 w2 w3 w4 g w6 w7 w8 w9 := (cm_aI_aL _ _ _ _ _).trans (congrArg (fun z => aL z 1152 w9) ((cm_aI_aL _ _ _ _ _).trans (congrArg (fun z => aL z 1150 w8) ((cm_aI_aL _ _ _ _ _).trans (congrArg (fun z => aL z 1141 w7) ((cm_aI_aL _ _ _ _ _).trans (congrArg (fun z => aL z 1140 w6) (aI_aI _ 1162 _ _))))))))
theorem sgX1_shut_aL1140 {σ : Sto} {w0 : Int32} {w1 : Int32} {w2 : Int32} {w3 : Int64} {w4 : Nat → Int32} {w5 : Nat → Int32} {w6 : Nat → Int64} {w7 : Nat → Int64} {w8 : Nat → Int64} {w9 : Nat → Int64} {g : Nat → Int64} : aL (sgX1_shut σ w0 w1 w2 w3 w4 w5 w6 w7 w8 w9) 1140 g = sgX1_shut σ w0 w1 w2 w3 w4 w5 g w7 w8 w9 := (aL_comm _ (by decide) _ _).trans (congrArg (fun z => aL z 1152 w9) ((aL_comm _ (by decide) _ _).trans (congrArg (fun z => aL z 1150 w8) ((aL_comm _ (by decide) _ _).trans (congrArg (fun z => aL z 1141 w7) (aL_aL _ 1140 _ _))))))
theorem sgX1_shut_aL1141 {σ : Sto} {w0 : Int32} {w1 : Int32} {w2 : Int32} {w3 : Int64} {w4 : Nat → Int32} {w5 : Nat → Int32} {w6 : Nat → Int64} {w7 : Nat → Int64} {w8 : Nat → Int64} {w9 : Nat → Int64} {g : Nat → Int64} : aL (sgX1_shut σ w0 w1 w2 w3 w4 w5 w6 w7 w8 w9) 1141 g = sgX1_shut σ w0 w1 w2 w3 w4 w5 w6 g w8 w9 := (aL_comm _ (by decide) _ _).trans (congrArg (fun z => aL z 1152 w9) ((aL_comm _ (by decide) _ _).trans (congrArg (fun z => aL z 1150 w8) (aL_aL _ 1141 _ _))))
theorem sgX1_shut_aL1150 {σ : Sto} {w0 : Int32} {w1 : Int32} {w2 : Int32} {w3 : Int64} {w4 : Nat → Int32} {w5 : Nat → Int32} {w6 : Nat → Int64} {w7 : Nat → Int64} {w8 : Nat → Int64} {w9 : Nat → Int64} {g : Nat → Int64} : aL (sgX1_shut σ w0 w1 w2 w3 w4 w5 w6 w7 w8 w9) 1150 g = sgX1_shut σ w0 w1 w2 w3 w4 w5 w6 w7 g w9 := (aL_comm _ (by decide) _ _).trans (congrArg (fun z => aL z 1152 w9) (aL_aL _ 1150 _ _))
theorem sgX1_shut_aL1152 {σ : Sto} {w0 : Int32} {w1 : Int32} {w2 : Int32} {w3 : Int64} {w4 : Nat → Int32} {w5 : Nat → Int32} {w6 : Nat → Int64} {w7 : Nat → Int64} {w8 : Nat → Int64} {w9 : Nat → Int64} {g : Nat → Int64} : aL (sgX1_shut σ w0 w1 w2 w3 w4 w5 w6 w7 w8 w9) 1152 g = sgX1_shut σ w0 w1 w2 w3 w4 w5 w6 w7 w8 g := aL_aL _ 1152 _ _
theorem sgX1_shut_rzI1018 {σ : Sto} {w0 : Int32} {w1 : Int32} {w2 : Int32} {w3 : Int64} {w4 : Nat → Int32} {w5 : Nat → Int32} {w6 : Nat → Int64} {w7 : Nat → Int64} {w8 : Nat → Int64} {w9 : Nat → Int64} : (sgX1_shut σ w0 w1 w2 w3 w4 w5 w6 w7 w8 w9).1 1018 = w0 := rfl
theorem sgX1_shut_rzI1062 {σ : Sto} {w0 : Int32} {w1 : Int32} {w2 : Int32} {w3 : Int64} {w4 : Nat → Int32} {w5 : Nat → Int32} {w6 : Nat → Int64} {w7 : Nat → Int64} {w8 : Nat → Int64} {w9 : Nat → Int64} : (sgX1_shut σ w0 w1 w2 w3 w4 w5 w6 w7 w8 w9).1 1062 = w1 := rfl
theorem sgX1_shut_rzI1082 {σ : Sto} {w0 : Int32} {w1 : Int32} {w2 : Int32} {w3 : Int64} {w4 : Nat → Int32} {w5 : Nat → Int32} {w6 : Nat → Int64} {w7 : Nat → Int64} {w8 : Nat → Int64} {w9 : Nat → Int64} : (sgX1_shut σ w0 w1 w2 w3 w4 w5 w6 w7 w8 w9).1 1082 = w2 := rfl
theorem sgX1_shut_rzI2008 {σ : Sto} {w0 : Int32} {w1 : Int32} {w2 : Int32} {w3 : Int64} {w4 : Nat → Int32} {w5 : Nat → Int32} {w6 : Nat → Int64} {w7 : Nat → Int64} {w8 : Nat → Int64} {w9 : Nat → Int64} : (sgX1_shut σ w0 w1 w2 w3 w4 w5 w6 w7 w8 w9).1 2008 = σ.1 2008 := rfl
theorem sgX1_shut_rzI2009 {σ : Sto} {w0 : Int32} {w1 : Int32} {w2 : Int32} {w3 : Int64} {w4 : Nat → Int32} {w5 : Nat → Int32} {w6 : Nat → Int64} {w7 : Nat → Int64} {w8 : Nat → Int64} {w9 : Nat → Int64} : (sgX1_shut σ w0 w1 w2 w3 w4 w5 w6 w7 w8 w9).1 2009 = σ.1 2009 := rfl
theorem sgX1_shut_rzI2012 {σ : Sto} {w0 : Int32} {w1 : Int32} {w2 : Int32} {w3 : Int64} {w4 : Nat → Int32} {w5 : Nat → Int32} {w6 : Nat → Int64} {w7 : Nat → Int64} {w8 : Nat → Int64} {w9 : Nat → Int64} : (sgX1_shut σ w0 w1 w2 w3 w4 w5 w6 w7 w8 w9).1 2012 = σ.1 2012 := rfl
theorem sgX1_shut_rzI2013 {σ : Sto} {w0 : Int32} {w1 : Int32} {w2 : Int32} {w3 : Int64} {w4 : Nat → Int32} {w5 : Nat → Int32} {w6 : Nat → Int64} {w7 : Nat → Int64} {w8 : Nat → Int64} {w9 : Nat → Int64} : (sgX1_shut σ w0 w1 w2 w3 w4 w5 w6 w7 w8 w9).1 2013 = σ.1 2013 := rfl
theorem sgX1_shut_rzI2027 {σ : Sto} {w0 : Int32} {w1 : Int32} {w2 : Int32} {w3 : Int64} {w4 : Nat → Int32} {w5 : Nat → Int32} {w6 : Nat → Int64} {w7 : Nat → Int64} {w8 : Nat → Int64} {w9 : Nat → Int64} : (sgX1_shut σ w0 w1 w2 w3 w4 w5 w6 w7 w8 w9).1 2027 = σ.1 2027 := rfl
theorem sgX1_shut_rzI2032 {σ : Sto} {w0 : Int32} {w1 : Int32} {w2 : Int32} {w3 : Int64} {w4 : Nat → Int32} {w5 : Nat → Int32} {w6 : Nat → Int64} {w7 : Nat → Int64} {w8 : Nat → Int64} {w9 : Nat → Int64} : (sgX1_shut σ w0 w1 w2 w3 w4 w5 w6 w7 w8 w9).1 2032 = σ.1 2032 := rfl
theorem sgX1_shut_rzL1052 {σ : Sto} {w0 : Int32} {w1 : Int32} {w2 : Int32} {w3 : Int64} {w4 : Nat → Int32} {w5 : Nat → Int32} {w6 : Nat → Int64} {w7 : Nat → Int64} {w8 : Nat → Int64} {w9 : Nat → Int64} : (sgX1_shut σ w0 w1 w2 w3 w4 w5 w6 w7 w8 w9).2.1 1052 = w3 := rfl
theorem sgX1_shut_rzL1061 {σ : Sto} {w0 : Int32} {w1 : Int32} {w2 : Int32} {w3 : Int64} {w4 : Nat → Int32} {w5 : Nat → Int32} {w6 : Nat → Int64} {w7 : Nat → Int64} {w8 : Nat → Int64} {w9 : Nat → Int64} : (sgX1_shut σ w0 w1 w2 w3 w4 w5 w6 w7 w8 w9).2.1 1061 = σ.2.1 1061 := rfl
theorem sgX1_shut_rzL1081 {σ : Sto} {w0 : Int32} {w1 : Int32} {w2 : Int32} {w3 : Int64} {w4 : Nat → Int32} {w5 : Nat → Int32} {w6 : Nat → Int64} {w7 : Nat → Int64} {w8 : Nat → Int64} {w9 : Nat → Int64} : (sgX1_shut σ w0 w1 w2 w3 w4 w5 w6 w7 w8 w9).2.1 1081 = σ.2.1 1081 := rfl
theorem sgX1_shut_raI1108 {σ : Sto} {w0 : Int32} {w1 : Int32} {w2 : Int32} {w3 : Int64} {w4 : Nat → Int32} {w5 : Nat → Int32} {w6 : Nat → Int64} {w7 : Nat → Int64} {w8 : Nat → Int64} {w9 : Nat → Int64} : (sgX1_shut σ w0 w1 w2 w3 w4 w5 w6 w7 w8 w9).2.2.1 1108 = w4 := rfl
theorem sgX1_shut_raI1162 {σ : Sto} {w0 : Int32} {w1 : Int32} {w2 : Int32} {w3 : Int64} {w4 : Nat → Int32} {w5 : Nat → Int32} {w6 : Nat → Int64} {w7 : Nat → Int64} {w8 : Nat → Int64} {w9 : Nat → Int64} : (sgX1_shut σ w0 w1 w2 w3 w4 w5 w6 w7 w8 w9).2.2.1 1162 = w5 := rfl
theorem sgX1_shut_raI1170 {σ : Sto} {w0 : Int32} {w1 : Int32} {w2 : Int32} {w3 : Int64} {w4 : Nat → Int32} {w5 : Nat → Int32} {w6 : Nat → Int64} {w7 : Nat → Int64} {w8 : Nat → Int64} {w9 : Nat → Int64} : (sgX1_shut σ w0 w1 w2 w3 w4 w5 w6 w7 w8 w9).2.2.1 1170 = σ.2.2.1 1170 := rfl
theorem sgX1_shut_raI2036 {σ : Sto} {w0 : Int32} {w1 : Int32} {w2 : Int32} {w3 : Int64} {w4 : Nat → Int32} {w5 : Nat → Int32} {w6 : Nat → Int64} {w7 : Nat → Int64} {w8 : Nat → Int64} {w9 : Nat → Int64} : (sgX1_shut σ w0 w1 w2 w3 w4 w5 w6 w7 w8 w9).2.2.1 2036 = σ.2.2.1 2036 := rfl
theorem sgX1_shut_raI2037 {σ : Sto} {w0 : Int32} {w1 : Int32} {w2 : Int32} {w3 : Int64} {w4 : Nat → Int32} {w5 : Nat → Int32} {w6 : Nat → Int64} {w7 : Nat → Int64} {w8 : Nat → Int64} {w9 : Nat → Int64} : (sgX1_shut σ w0 w1 w2 w3 w4 w5 w6 w7 w8 w9).2.2.1 2037 = σ.2.2.1 2037 := rfl
theorem sgX1_shut_raI2042 {σ : Sto} {w0 : Int32} {w1 : Int32} {w2 : Int32} {w3 : Int64} {w4 : Nat → Int32} {w5 : Nat → Int32} {w6 : Nat → Int64} {w7 : Nat → Int64} {w8 : Nat → Int64} {w9 : Nat → Int64} : (sgX1_shut σ w0 w1 w2 w3 w4 w5 w6 w7 w8 w9).2.2.1 2042 = σ.2.2.1 2042 := rfl
theorem sgX1_shut_raI2043 {σ : Sto} {w0 : Int32} {w1 : Int32} {w2 : Int32} {w3 : Int64} {w4 : Nat → Int32} {w5 : Nat → Int32} {w6 : Nat → Int64} {w7 : Nat → Int64} {w8 : Nat → Int64} {w9 : Nat → Int64} : (sgX1_shut σ w0 w1 w2 w3 w4 w5 w6 w7 w8 w9).2.2.1 2043 = σ.2.2.1 2043 := rfl
theorem sgX1_shut_raL1140 {σ : Sto} {w0 : Int32} {w1 : Int32} {w2 : Int32} {w3 : Int64} {w4 : Nat → Int32} {w5 : Nat → Int32} {w6 : Nat → Int64} {w7 : Nat → Int64} {w8 : Nat → Int64} {w9 : Nat → Int64} : (sgX1_shut σ w0 w1 w2 w3 w4 w5 w6 w7 w8 w9).2.2.2.1 1140 = w6 := rfl
theorem sgX1_shut_raL1141 {σ : Sto} {w0 : Int32} {w1 : Int32} {w2 : Int32} {w3 : Int64} {w4 : Nat → Int32} {w5 : Nat → Int32} {w6 : Nat → Int64} {w7 : Nat → Int64} {w8 : Nat → Int64} {w9 : Nat → Int64} : (sgX1_shut σ w0 w1 w2 w3 w4 w5 w6 w7 w8 w9).2.2.2.1 1141 = w7 := rfl
theorem sgX1_shut_raL1150 {σ : Sto} {w0 : Int32} {w1 : Int32} {w2 : Int32} {w3 : Int64} {w4 : Nat → Int32} {w5 : Nat → Int32} {w6 : Nat → Int64} {w7 : Nat → Int64} {w8 : Nat → Int64} {w9 : Nat → Int64} : (sgX1_shut σ w0 w1 w2 w3 w4 w5 w6 w7 w8 w9).2.2.2.1 1150 = w8 := rfl
theorem sgX1_shut_raL1152 {σ : Sto} {w0 : Int32} {w1 : Int32} {w2 : Int32} {w3 : Int64} {w4 : Nat → Int32} {w5 : Nat → Int32} {w6 : Nat → Int64} {w7 : Nat → Int64} {w8 : Nat → Int64} {w9 : Nat → Int64} : (sgX1_shut σ w0 w1 w2 w3 w4 w5 w6 w7 w8 w9).2.2.2.1 1152 = w9 := rfl
theorem sgX1_shut_rpR2 {σ : Sto} {w0 : Int32} {w1 : Int32} {w2 : Int32} {w3 : Int64} {w4 : Nat → Int32} {w5 : Nat → Int32} {w6 : Nat → Int64} {w7 : Nat → Int64} {w8 : Nat → Int64} {w9 : Nat → Int64} : (fun k => (sgX1_shut σ w0 w1 w2 w3 w4 w5 w6 w7 w8 w9).1 (6000 + 16 * k + 2)) = (fun k => σ.1 (6000 + 16 * k + 2)) := by
  funext k
  unfold sgX1_shut
  dsimp only [zI, zL, aI, aL]
  repeat rw [if_neg (by omega)]
theorem sgX1_shut_rpR3 {σ : Sto} {w0 : Int32} {w1 : Int32} {w2 : Int32} {w3 : Int64} {w4 : Nat → Int32} {w5 : Nat → Int32} {w6 : Nat → Int64} {w7 : Nat → Int64} {w8 : Nat → Int64} {w9 : Nat → Int64} : (fun k => (sgX1_shut σ w0 w1 w2 w3 w4 w5 w6 w7 w8 w9).1 (6000 + 16 * k + 3)) = (fun k => σ.1 (6000 + 16 * k + 3)) := by
  funext k
  unfold sgX1_shut
  dsimp only [zI, zL, aI, aL]
  repeat rw [if_neg (by omega)]
theorem sgX1_shut_rpR4 {σ : Sto} {w0 : Int32} {w1 : Int32} {w2 : Int32} {w3 : Int64} {w4 : Nat → Int32} {w5 : Nat → Int32} {w6 : Nat → Int64} {w7 : Nat → Int64} {w8 : Nat → Int64} {w9 : Nat → Int64} : (fun k => (sgX1_shut σ w0 w1 w2 w3 w4 w5 w6 w7 w8 w9).1 (6000 + 16 * k + 4)) = (fun k => σ.1 (6000 + 16 * k + 4)) := by
  funext k
  unfold sgX1_shut
  dsimp only [zI, zL, aI, aL]
  repeat rw [if_neg (by omega)]
theorem sgX1_shut_rpR5 {σ : Sto} {w0 : Int32} {w1 : Int32} {w2 : Int32} {w3 : Int64} {w4 : Nat → Int32} {w5 : Nat → Int32} {w6 : Nat → Int64} {w7 : Nat → Int64} {w8 : Nat → Int64} {w9 : Nat → Int64} : (fun k => (sgX1_shut σ w0 w1 w2 w3 w4 w5 w6 w7 w8 w9).1 (6000 + 16 * k + 5)) = (fun k => σ.1 (6000 + 16 * k + 5)) := by
  funext k
  unfold sgX1_shut
  dsimp only [zI, zL, aI, aL]
  repeat rw [if_neg (by omega)]
theorem sgX1_shut_rpR6 {σ : Sto} {w0 : Int32} {w1 : Int32} {w2 : Int32} {w3 : Int64} {w4 : Nat → Int32} {w5 : Nat → Int32} {w6 : Nat → Int64} {w7 : Nat → Int64} {w8 : Nat → Int64} {w9 : Nat → Int64} : (fun k => (sgX1_shut σ w0 w1 w2 w3 w4 w5 w6 w7 w8 w9).1 (6000 + 16 * k + 6)) = (fun k => σ.1 (6000 + 16 * k + 6)) := by
  funext k
  unfold sgX1_shut
  dsimp only [zI, zL, aI, aL]
  repeat rw [if_neg (by omega)]
theorem sgX1_shut_rpW0 {σ : Sto} {w0 : Int32} {w1 : Int32} {w2 : Int32} {w3 : Int64} {w4 : Nat → Int32} {w5 : Nat → Int32} {w6 : Nat → Int64} {w7 : Nat → Int64} {w8 : Nat → Int64} {w9 : Nat → Int64} : (fun k => (sgX1_shut σ w0 w1 w2 w3 w4 w5 w6 w7 w8 w9).1 (8000 + 16 * k + 0)) = (fun k => σ.1 (8000 + 16 * k + 0)) := by
  funext k
  unfold sgX1_shut
  dsimp only [zI, zL, aI, aL]
  repeat rw [if_neg (by omega)]
theorem sgX1_shut_rpW1 {σ : Sto} {w0 : Int32} {w1 : Int32} {w2 : Int32} {w3 : Int64} {w4 : Nat → Int32} {w5 : Nat → Int32} {w6 : Nat → Int64} {w7 : Nat → Int64} {w8 : Nat → Int64} {w9 : Nat → Int64} : (fun k => (sgX1_shut σ w0 w1 w2 w3 w4 w5 w6 w7 w8 w9).1 (8000 + 16 * k + 1)) = (fun k => σ.1 (8000 + 16 * k + 1)) := by
  funext k
  unfold sgX1_shut
  dsimp only [zI, zL, aI, aL]
  repeat rw [if_neg (by omega)]
theorem sgX1_shut_rpW2 {σ : Sto} {w0 : Int32} {w1 : Int32} {w2 : Int32} {w3 : Int64} {w4 : Nat → Int32} {w5 : Nat → Int32} {w6 : Nat → Int64} {w7 : Nat → Int64} {w8 : Nat → Int64} {w9 : Nat → Int64} : (fun k => (sgX1_shut σ w0 w1 w2 w3 w4 w5 w6 w7 w8 w9).1 (8000 + 16 * k + 2)) = (fun k => σ.1 (8000 + 16 * k + 2)) := by
  funext k
  unfold sgX1_shut
  dsimp only [zI, zL, aI, aL]
  repeat rw [if_neg (by omega)]
theorem sgX1_shut_rgG0 {σ : Sto} {w0 : Int32} {w1 : Int32} {w2 : Int32} {w3 : Int64} {w4 : Nat → Int32} {w5 : Nat → Int32} {w6 : Nat → Int64} {w7 : Nat → Int64} {w8 : Nat → Int64} {w9 : Nat → Int64} : (fun k => (sgX1_shut σ w0 w1 w2 w3 w4 w5 w6 w7 w8 w9).2.2.1 (4000 + 16 * k)) = (fun k => σ.2.2.1 (4000 + 16 * k)) := by
  funext k
  unfold sgX1_shut
  dsimp only [zI, zL, aI, aL]
  repeat rw [if_neg (by omega)]
abbrev rmX1_shut : Room := { frames := 49, cells := 0, slots := 0, locals := 1337 }
set_option maxHeartbeats 4000000 in
theorem wkX1_shut {x1 : Int32} {x2 : Int32} {r_ : Int64} {w_zI1018 : Int32} {w_zI1062 : Int32} {w_zI1082 : Int32} {w_zL1052 : Int64} {w_aI1108 : Nat → Int32} {w_aI1162 : Nat → Int32} {w_aL1140 : Nat → Int64} {w_aL1141 : Nat → Int64} {w_aL1150 : Nat → Int64} {w_aL1152 : Nat → Int64} (E : EN p s m args meth c0 RX1 cX1_shut 4 (Option.some Jvm.ClassFile.FieldType.long)) (hX : KX D G ad A s s.heap) (hD : XD dsc nr nw nu) (hA : ∀ q, PA dsc ad s.heap.size q → A q) (hf : xo_X1_shut (σ.1 1018) (σ.1 1062) (σ.1 1082) (σ.1 2008) (σ.1 2009) (σ.1 2012) (σ.1 2013) (σ.1 2027) (σ.1 2032) (σ.2.1 1052) (σ.2.1 1061) (σ.2.1 1081) (σ.2.2.1 1108) (σ.2.2.1 1162) (σ.2.2.1 1170) (σ.2.2.1 2036) (σ.2.2.1 2037) (σ.2.2.1 2042) (σ.2.2.1 2043) (σ.2.2.2.1 1140) (σ.2.2.2.1 1141) (σ.2.2.2.1 1150) (σ.2.2.2.1 1152) nr nw (fun k => σ.1 (6000 + 16 * k + 2)) (fun k => σ.1 (6000 + 16 * k + 3)) (fun k => σ.1 (6000 + 16 * k + 4)) (fun k => σ.1 (6000 + 16 * k + 5)) (fun k => σ.1 (6000 + 16 * k + 6)) (fun k => σ.1 (8000 + 16 * k + 0)) (fun k => σ.1 (8000 + 16 * k + 1)) (fun k => σ.1 (8000 + 16 * k + 2)) (fun k => σ.2.2.1 (4000 + 16 * k)) x1 x2 = some (r_, w_zI1018, w_zI1062, w_zI1082, w_zL1052, w_aI1108, w_aI1162, w_aL1140, w_aL1141, w_aL1150, w_aL1152)) (hQ : Q = MQ below (va_G1 (some (.long r_)) (fun t => PIC D clsA G dsc ad (sgX1_shut σ w_zI1018 w_zI1062 w_zI1082 w_zL1052 w_aI1108 w_aI1162 w_aL1140 w_aL1141 w_aL1150 w_aL1152) t.heap) A) args s 0 0 A) (hP : PIC D clsA G dsc ad σ H) (hS : va_S A s.heap H locs) (hl : lv_has ls 4 [(0, .ref (ad 1000)), (1, .int x1), (2, .int x2)]) : W p l e rmX1_shut s m args below meth c0 H locs 0 0 Q (F0 m 0 ls []) := by
  obtain ⟨⟨hx, hb, hml, hown, hts⟩, hr, hlk⟩ := id E
  have hP := hP.to (sgX1_shut_self σ).symm
  unfold xo_X1_shut at hf
  refine lv_aload_n hx hb dX1_shut_0 rfl (lv_at hl 0 rfl) ?_
  refine lv_iload_n hx hb dX1_shut_1 rfl (lv_at hl 1 rfl) ?_
  obtain ⟨v1, u2, hf⟩ := bdP hf
  refine cx_X1_281_X1_isKnown E hX hD hP hS hA (kxX1_isKnown l D G hD sgX1_shut_rzI2027 sgX1_shut_raI1170 u2) ⟨rfl, rfl⟩ ⟨Nat.le_of_ble_eq_true rfl, Nat.le_of_ble_eq_true rfl⟩ ⟨Nat.zero_le _, Nat.zero_le _⟩ hl.1 (Nat.le_of_ble_eq_true rfl) dX1_shut_2 (fun H locs hP hS => ?_)
  have J16 : xo_X1_shut_J16 (σ.1 1018) (σ.1 1062) (σ.1 1082) (σ.2.1 1052) (σ.2.2.1 1108) (σ.2.2.1 1162) (σ.2.2.2.1 1140) (σ.2.2.2.1 1141) (σ.2.2.2.1 1150) (σ.2.2.2.1 1152) = some (r_, w_zI1018, w_zI1062, w_zI1082, w_zL1052, w_aI1108, w_aI1162, w_aL1140, w_aL1141, w_aL1150, w_aL1152) → ∀ (H : Heap) (locs : List Loc), PIC D clsA G dsc ad (sgX1_shut σ (σ.1 1018) (σ.1 1062) (σ.1 1082) (σ.2.1 1052) (σ.2.2.1 1108) (σ.2.2.1 1162) (σ.2.2.2.1 1140) (σ.2.2.2.1 1141) (σ.2.2.2.1 1150) (σ.2.2.2.1 1152)) H → va_S A s.heap H locs → ∀ (ls : Array Slot), lv_has ls 4 [] → W p l e rmX1_shut s m args below meth c0 H locs 0 0 Q (F0 m 16 ls []) := by
    intro  hf H locs hP hS ls hl
    unfold xo_X1_shut_J16 at hf
    refine lv_ldc2 hx hb hown (hts _ q996) dX1_shut_16 ?_
    cases hf
    rw [hQ]; exact g_lret hx hb hr hlk hP hS dX1_shut_19
  refine lv_if_eq (tgt := 16) hx hb dX1_shut_5 (by decide) (fun c3 => ?_) (fun c3 => ?_)
  · have hf := ifT c3 hf
    exact J16  hf H locs hP hS ls (lv_sub hl [] rfl)
  · have hf := ifF c3 hf
    refine lv_aload_n hx hb dX1_shut_8 rfl (lv_at hl 0 rfl) ?_
    refine lv_iload_n hx hb dX1_shut_9 rfl (lv_at hl 2 rfl) ?_
    obtain ⟨v4, u5, hf⟩ := bdP hf
    refine cx_X1_287_X1_isDoubtful E hX hD hP hS hA (kxX1_isDoubtful l D G hD sgX1_shut_rzI2027 u5) ⟨rfl, rfl⟩ ⟨Nat.le_of_ble_eq_true rfl, Nat.le_of_ble_eq_true rfl⟩ ⟨Nat.zero_le _, Nat.zero_le _⟩ hl.1 (Nat.le_of_ble_eq_true rfl) dX1_shut_10 (fun H locs hP hS => ?_)
    refine lv_if_ne (tgt := 20) hx hb dX1_shut_13 (by decide) (fun c6 => ?_) (fun c6 => ?_)
    · have hf := ifF c6 hf
      refine lv_aload_n hx hb dX1_shut_20 rfl (lv_at hl 0 rfl) ?_
      obtain ⟨⟨z7, z8, z9, z10, a11, a12, a13, a14, a15, a16⟩, u17, hf⟩ := bdP hf
      dsimp only at hf
      refine cx_X1_276_X1_lay E hX hD hP hS hA (kxX1_lay l D G hD sgX1_shut_rzI1018 sgX1_shut_rzI1062 sgX1_shut_rzI1082 sgX1_shut_rzI2008 sgX1_shut_rzI2009 sgX1_shut_rzI2012 sgX1_shut_rzI2013 sgX1_shut_rzI2027 sgX1_shut_rzI2032 sgX1_shut_rzL1052 sgX1_shut_rzL1061 sgX1_shut_rzL1081 sgX1_shut_raI1108 sgX1_shut_raI1162 sgX1_shut_raI1170 sgX1_shut_raI2036 sgX1_shut_raI2037 sgX1_shut_raI2042 sgX1_shut_raI2043 sgX1_shut_raL1140 sgX1_shut_raL1141 sgX1_shut_raL1150 sgX1_shut_raL1152 rfl rfl sgX1_shut_rpR2 sgX1_shut_rpR3 sgX1_shut_rpR4 sgX1_shut_rpR5 sgX1_shut_rpR6 sgX1_shut_rpW0 sgX1_shut_rpW1 sgX1_shut_rpW2 sgX1_shut_rgG0 u17) ⟨rfl, rfl⟩ ⟨Nat.le_of_ble_eq_true rfl, Nat.le_of_ble_eq_true rfl⟩ ⟨Nat.zero_le _, Nat.zero_le _⟩ hl.1 (Nat.le_of_ble_eq_true rfl) dX1_shut_21 (fun H locs hP hS => ?_)
      rw [sgX1_shut_zI1018, sgX1_shut_zI1062, sgX1_shut_zI1082, sgX1_shut_zL1052, sgX1_shut_aI1108, sgX1_shut_aI1162, sgX1_shut_aL1140, sgX1_shut_aL1141, sgX1_shut_aL1150, sgX1_shut_aL1152] at hP
      refine lv_iload_n hx hb dX1_shut_24 rfl (lv_at hl 1 rfl) ?_
      refine lv_iload_n hx hb dX1_shut_25 rfl (lv_at hl 2 rfl) ?_
      obtain ⟨v18, u19, hf⟩ := bdP hf
      refine cx_X1_290_X1_digit E hX hD hP hS hA (kxX1_digit l D G hD sgX1_shut_raI1170 u19) ⟨rfl, rfl⟩ ⟨Nat.le_of_ble_eq_true rfl, Nat.le_of_ble_eq_true rfl⟩ ⟨Nat.zero_le _, Nat.zero_le _⟩ hl.1 (Nat.le_of_ble_eq_true rfl) dX1_shut_26 (fun H locs hP hS => ?_)
      refine lv_istore_n (lv' := [(3, .int v18), (0, .ref (ad 1000)), (1, .int x1), (2, .int x2)]) hx hb dX1_shut_29 rfl hl (by decide) rfl (fun ls hl => ?_)
      refine lv_iload_n hx hb dX1_shut_30 rfl (lv_at hl 0 rfl) ?_
      refine lv_iconst hx hb dX1_shut_31 ic_1 ?_
      refine lv_icmp_ne (tgt := 39) hx hb dX1_shut_32 (by decide) (fun c20 => ?_) (fun c20 => ?_)
      · have hf := ifF c20 hf
        refine lv_aload_n hx hb dX1_shut_39 rfl (lv_at hl 1 rfl) ?_
        refine gx_X1_40_1000 E hX hD hP dX1_shut_40 ?_
        refine gx_X1_284_1050 E hX hD hP dX1_shut_43 ?_
        refine lv_iload_n hx hb dX1_shut_46 rfl (lv_at hl 0 rfl) ?_
        refine lv_iconst hx hb dX1_shut_47 ic_2 ?_
        have J61 : ∀ (k21 : Int32), xo_X1_shut_J61 z7 z8 z9 z10 a11 a12 a13 a14 a15 a16 k21 = some (r_, w_zI1018, w_zI1062, w_zI1082, w_zL1052, w_aI1108, w_aI1162, w_aL1140, w_aL1141, w_aL1150, w_aL1152) → ∀ (H : Heap) (locs : List Loc), PIC D clsA G dsc ad (sgX1_shut σ z7 z8 z9 z10 a11 a12 a13 a14 a15 a16) H → va_S A s.heap H locs → ∀ (ls : Array Slot), lv_has ls 4 [] → W p l e rmX1_shut s m args below meth c0 H locs 0 0 Q (F0 m 61 ls [.int k21, .ref (ad 1141)]) := by
          intro k21 hf H locs hP hS ls hl
          unfold xo_X1_shut_J61 at hf
          obtain ⟨v22, hv22, hf⟩ := bdP hf
          refine p_lald hx hb hX.1 hP (hD.1 _ _ dX_1141) sgX1_shut_raL1141 hv22 dX1_shut_61 ?_
          cases hf
          rw [hQ]; exact g_lret hx hb hr hlk hP hS dX1_shut_62
        refine lv_icmp_ne (tgt := 55) hx hb dX1_shut_48 (by decide) (fun c23 => ?_) (fun c23 => ?_)
        · have hf := ifF c23 hf
          refine lv_iload_n hx hb dX1_shut_55 rfl (lv_at hl 2 rfl) ?_
          refine lv_iload_n hx hb dX1_shut_56 rfl (lv_at hl 3 rfl) ?_
          refine lv_iconst hx hb dX1_shut_57 ic_2 ?_
          obtain ⟨v24, u25, hf⟩ := bdP hf
          refine cx_X1_249_X1_with E hX hD hP hS hA (kxX1_with l D G hD sgX1_shut_raI1170 u25) ⟨rfl, rfl⟩ ⟨Nat.le_of_ble_eq_true rfl, Nat.le_of_ble_eq_true rfl⟩ ⟨Nat.zero_le _, Nat.zero_le _⟩ hl.1 (Nat.le_of_ble_eq_true rfl) dX1_shut_58 (fun H locs hP hS => ?_)
          exact J61 v24 hf H locs hP hS ls (lv_sub hl [] rfl)
        · have hf := ifT c23 hf
          refine lv_iload_n hx hb dX1_shut_51 rfl (lv_at hl 2 rfl) ?_
          refine lv_goto (tgt := 61) hx hb dX1_shut_52 (by decide) ?_
          exact J61 x1 hf H locs hP hS ls (lv_sub hl [] rfl)
      · have hf := ifT c20 hf
        refine lv_lconst hx hb dX1_shut_35 lc_0 ?_
        refine lv_goto (tgt := 62) hx hb dX1_shut_36 (by decide) ?_
        cases hf
        rw [hQ]; exact g_lret hx hb hr hlk hP hS dX1_shut_62
    · have hf := ifT c6 hf
      exact J16  hf H locs hP hS ls (lv_sub hl [] rfl)
theorem kxX1_shut (l : Launch) (D : va_G) (G : Nat → ClassId) {dsc : Nat → Option Dsc} {ad : Nat → Nat} {σ : Sto} {nr nw nu : Nat} (hD : XD dsc nr nw nu) {x1 : Int32} {x2 : Int32} {r_ : Int64} {w_zI1018 : Int32} {w_zI1062 : Int32} {w_zI1082 : Int32} {w_zL1052 : Int64} {w_aI1108 : Nat → Int32} {w_aI1162 : Nat → Int32} {w_aL1140 : Nat → Int64} {w_aL1141 : Nat → Int64} {w_aL1150 : Nat → Int64} {w_aL1152 : Nat → Int64} {z_X_isLaid : Int32} (e_zI1018 : σ.1 1018 = z_X_isLaid) {z_TB_by : Int32} (e_zI1062 : σ.1 1062 = z_TB_by) {z_TS_by : Int32} (e_zI1082 : σ.1 1082 = z_TS_by) {z_L_places : Int32} (e_zI2008 : σ.1 2008 = z_L_places) {z_L_causes : Int32} (e_zI2009 : σ.1 2009 = z_L_causes) {z_L_from : Int32} (e_zI2012 : σ.1 2012 = z_L_from) {z_L_to : Int32} (e_zI2013 : σ.1 2013 = z_L_to) {z_Ld_size : Int32} (e_zI2027 : σ.1 2027 = z_Ld_size) {z_Lw_size : Int32} (e_zI2032 : σ.1 2032 = z_Lw_size) {z_W_all : Int64} (e_zL1052 : σ.2.1 1052 = z_W_all) {z_TB_none : Int64} (e_zL1061 : σ.2.1 1061 = z_TB_none) {z_TS_none : Int64} (e_zL1081 : σ.2.1 1081 = z_TS_none) {a_X_knowing : Nat → Int32} (e_aI1108 : σ.2.2.1 1108 = a_X_knowing) {a_p3_far : Nat → Int32} (e_aI1162 : σ.2.2.1 1162 = a_p3_far) {a_UNIT : Nat → Int32} (e_aI1170 : σ.2.2.1 1170 = a_UNIT) {a_Ld_data : Nat → Int32} (e_aI2036 : σ.2.2.1 2036 = a_Ld_data) {a_Lw_data : Nat → Int32} (e_aI2037 : σ.2.2.1 2037 = a_Lw_data) {a_L_comes : Nat → Int32} (e_aI2042 : σ.2.2.1 2042 = a_L_comes) {a_L_seen : Nat → Int32} (e_aI2043 : σ.2.2.1 2043 = a_L_seen) {a_W_world : Nat → Int64} (e_aL1140 : σ.2.2.2.1 1140 = a_W_world) {a_W_likely : Nat → Int64} (e_aL1141 : σ.2.2.2.1 1141 = a_W_likely) {a_TB_value : Nat → Int64} (e_aL1150 : σ.2.2.2.1 1150 = a_TB_value) {a_TS_value : Nat → Int64} (e_aL1152 : σ.2.2.2.1 1152 = a_TS_value) {n_r : Nat} (e_nN0 : nr = n_r) {n_w : Nat} (e_nN1 : nw = n_w) {p_road_hours : Nat → Int32} (e_pR2 : (fun k => σ.1 (6000 + 16 * k + 2)) = p_road_hours) {p_road_doubt : Nat → Int32} (e_pR3 : (fun k => σ.1 (6000 + 16 * k + 3)) = p_road_doubt) {p_road_cause : Nat → Int32} (e_pR4 : (fun k => σ.1 (6000 + 16 * k + 4)) = p_road_cause) {p_road_wait : Nat → Int32} (e_pR5 : (fun k => σ.1 (6000 + 16 * k + 5)) = p_road_wait) {p_road_number : Nat → Int32} (e_pR6 : (fun k => σ.1 (6000 + 16 * k + 6)) = p_road_number) {p_word_place : Nat → Int32} (e_pW0 : (fun k => σ.1 (8000 + 16 * k + 0)) = p_word_place) {p_word_road : Nat → Int32} (e_pW1 : (fun k => σ.1 (8000 + 16 * k + 1)) = p_word_road) {p_word_hours : Nat → Int32} (e_pW2 : (fun k => σ.1 (8000 + 16 * k + 2)) = p_word_hours) {g_grid : Nat → Nat → Int32} (e_gG0 : (fun k => σ.2.2.1 (4000 + 16 * k)) = g_grid) (hf : xo_X1_shut z_X_isLaid z_TB_by z_TS_by z_L_places z_L_causes z_L_from z_L_to z_Ld_size z_Lw_size z_W_all z_TB_none z_TS_none a_X_knowing a_p3_far a_UNIT a_Ld_data a_Lw_data a_L_comes a_L_seen a_W_world a_W_likely a_TB_value a_TS_value n_r n_w p_road_hours p_road_doubt p_road_cause p_road_wait p_road_number p_word_place p_word_road p_word_hours g_grid x1 x2 = some (r_, w_zI1018, w_zI1062, w_zI1082, w_zL1052, w_aI1108, w_aI1162, w_aL1140, w_aL1141, w_aL1150, w_aL1152)) : CtG l D G dsc ad yX1_shut (ws_ yX1_shut cX1_shut 4 (Option.some Jvm.ClassFile.FieldType.long)) rmX1_shut [.ref (ad 1000), .int x1, .int x2] σ (some (.long r_)) (aL (aL (aL (aL (aI (aI (zL (zI (zI (zI σ 1018 w_zI1018) 1062 w_zI1062) 1082 w_zI1082) 1052 w_zL1052) 1108 w_aI1108) 1162 w_aI1162) 1140 w_aL1140) 1141 w_aL1141) 1150 w_aL1150) 1152 w_aL1152) := by
  subst e_zI1018
  subst e_zI1062
  subst e_zI1082
  subst e_zI2008
  subst e_zI2009
  subst e_zI2012
  subst e_zI2013
  subst e_zI2027
  subst e_zI2032
  subst e_zL1052
  subst e_zL1061
  subst e_zL1081
  subst e_aI1108
  subst e_aI1162
  subst e_aI1170
  subst e_aI2036
  subst e_aI2037
  subst e_aI2042
  subst e_aI2043
  subst e_aL1140
  subst e_aL1141
  subst e_aL1150
  subst e_aL1152
  subst e_nN0
  subst e_nN1
  subst e_pR2
  subst e_pR3
  subst e_pR4
  subst e_pR5
  subst e_pR6
  subst e_pW0
  subst e_pW1
  subst e_pW2
  subst e_gG0
  exact p_ctG (by decide +kernel) (Nat.le_of_ble_eq_true rfl) (fun p e s m below meth c0 ls A E hP hX hA hS hl => wkX1_shut E hX hD hA hf rfl hP hS hl)
end XWALK
