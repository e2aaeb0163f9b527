section XWALK
variable {p : Program} {l : Launch} {e : Env} {R : Room} {s : State} {m : MethodId} {args : Array Value} {below : List Frame} {meth : Method} {c0 : Code} {H : Heap} {locs : List Loc} {cells slots : Nat} {Q : State → Prop}
variable {cc : ByteArray} {nL : Nat} {ret : Option FieldType} {pc : Nat} {ls : Array Slot} {rest : List Value} {D : va_G} {A : Nat → Prop} {G : Nat → ClassId} {dsc : Nat → Option Dsc} {ad : Nat → Nat} {σ : Sto} {nr nw nu : Nat}
theorem cx_X5_84_X5_going_TO {rm : Room} {σ1 : Sto} {x1 : Int32} {x2 : Int32} {x3 : Int32} {r : Int64} (E : EN p s m args meth c0 RX5 cc nL ret) (hX : KX D G ad A s s.heap) (hD : XD dsc nr nw nu) (hP : PIC D clsA G dsc ad σ H) (hS : va_S A s.heap H locs) (hA : ∀ q, PA dsc ad s.heap.size q → A q) (hM : CtG l D G dsc ad yX5_going (ws_ yX5_going cX5_going 7 (Option.some Jvm.ClassFile.FieldType.long)) rm [.ref (ad 1070), .int x1, .int x2, .int x3] σ (some (.long r)) σ1) (hz : rm.cells = 0 ∧ rm.slots = 0) (hR : rm.frames + 1 ≤ R.frames ∧ 8 + (7 + 11) + rm.locals ≤ R.locals) (hcs : cells ≤ R.cells ∧ slots ≤ R.slots) (hsz : ls.size = nL) (hW : (rest.map fun v => v.category).sum ≤ 8) (hdg : decode cc pc = .ok (.invokevirtual 84, 3)) (kk : ∀ (H1 : Heap) (locs1 : List Loc), PIC D clsA G dsc ad σ1 H1 → va_S A s.heap H1 locs1 → W p l e R s m args below meth c0 H1 locs1 cells slots Q (F0 m (pc + 3) ls (.long r :: rest))) : W p l e R s m args below meth c0 H locs cells slots Q (F0 m pc ls (.int x3 :: .int x2 :: .int x1 :: .ref (ad 1070) :: rest)) :=
  p_gU (As := [.int x1, .int x2, .int x3]) (rest := rest) E.1 hX hP hS hA hM (cw_any (owner := "ShutPasses$Table") (x := ⟨"ShutPasses$Table", "going", "(III)J"⟩) (y := yX5_going) (C := "ShutPasses$InMean") (index := 84) (own := RX5) 3 E.1.2.2.2.2 (lw_meth q1103) rfl hz.1 hz.2 (E.1.2.2.2.2 _ q1097) (E.1.2.2.2.2 _ q1099) (va_Decl.of (E.1.2.2.2.2 _ q1098) (E.1.2.2.2.2 _ q1103)) (E.1.2.2.2.2 _ q1101) (E.1.2.2.2.2 _ q1098) (E.1.2.2.2.2 _ q131) (by decide +kernel) hR) (hD.1 _ _ dX_1070) rfl rfl rfl hsz rfl hW hdg hcs kk
theorem cx_X5_88_X5_better_TO {rm : Room} {σ1 : Sto} {x1 : Int64} {x3 : Int64} {r : Int64} (E : EN p s m args meth c0 RX5 cc nL ret) (hX : KX D G ad A s s.heap) (hD : XD dsc nr nw nu) (hP : PIC D clsA G dsc ad σ H) (hS : va_S A s.heap H locs) (hA : ∀ q, PA dsc ad s.heap.size q → A q) (hM : CtG l D G dsc ad yX5_better (ws_ yX5_better cX5_better 5 (Option.some Jvm.ClassFile.FieldType.long)) rm [.ref (ad 1070), .long x1, .long x3] σ (some (.long r)) σ1) (hz : rm.cells = 0 ∧ rm.slots = 0) (hR : rm.frames + 1 ≤ R.frames ∧ 8 + (5 + 11) + rm.locals ≤ R.locals) (hcs : cells ≤ R.cells ∧ slots ≤ R.slots) (hsz : ls.size = nL) (hW : (rest.map fun v => v.category).sum ≤ 8) (hdg : decode cc pc = .ok (.invokevirtual 88, 3)) (kk : ∀ (H1 : Heap) (locs1 : List Loc), PIC D clsA G dsc ad σ1 H1 → va_S A s.heap H1 locs1 → W p l e R s m args below meth c0 H1 locs1 cells slots Q (F0 m (pc + 3) ls (.long r :: rest))) : W p l e R s m args below meth c0 H locs cells slots Q (F0 m pc ls (.long x3 :: .long x1 :: .ref (ad 1070) :: rest)) :=
  p_gU (As := [.long x1, .long x3]) (rest := rest) E.1 hX hP hS hA hM (cw_any (owner := "ShutPasses$Table") (x := ⟨"ShutPasses$Table", "better", "(JJ)J"⟩) (y := yX5_better) (C := "ShutPasses$InMean") (index := 88) (own := RX5) 2 E.1.2.2.2.2 (lw_meth q1170) rfl hz.1 hz.2 (E.1.2.2.2.2 _ q1167) (E.1.2.2.2.2 _ q2282) (va_Decl.of (E.1.2.2.2.2 _ q1169) (E.1.2.2.2.2 _ q1170)) (va_Nw.use rfl (hX.2.1.2 ("ShutPasses$InMean", yX5_better) (by decide +kernel))) (E.1.2.2.2.2 _ q1169) (E.1.2.2.2.2 _ q131) (by decide +kernel) hR) (hD.1 _ _ dX_1070) rfl rfl rfl hsz rfl hW hdg hcs kk
theorem cx_X5_95_X5_buying_TO {rm : Room} {σ1 : Sto} {x1 : Int32} {x2 : Int32} {x3 : Int32} {r : Int64} (E : EN p s m args meth c0 RX5 cc nL ret) (hX : KX D G ad A s s.heap) (hD : XD dsc nr nw nu) (hP : PIC D clsA G dsc ad σ H) (hS : va_S A s.heap H locs) (hA : ∀ q, PA dsc ad s.heap.size q → A q) (hM : CtG l D G dsc ad yX5_buying (ws_ yX5_buying cX5_buying 7 (Option.some Jvm.ClassFile.FieldType.long)) rm [.ref (ad 1070), .int x1, .int x2, .int x3] σ (some (.long r)) σ1) (hz : rm.cells = 0 ∧ rm.slots = 0) (hR : rm.frames + 1 ≤ R.frames ∧ 8 + (7 + 11) + rm.locals ≤ R.locals) (hcs : cells ≤ R.cells ∧ slots ≤ R.slots) (hsz : ls.size = nL) (hW : (rest.map fun v => v.category).sum ≤ 8) (hdg : decode cc pc = .ok (.invokevirtual 95, 3)) (kk : ∀ (H1 : Heap) (locs1 : List Loc), PIC D clsA G dsc ad σ1 H1 → va_S A s.heap H1 locs1 → W p l e R s m args below meth c0 H1 locs1 cells slots Q (F0 m (pc + 3) ls (.long r :: rest))) : W p l e R s m args below meth c0 H locs cells slots Q (F0 m pc ls (.int x3 :: .int x2 :: .int x1 :: .ref (ad 1070) :: rest)) :=
  p_gU (As := [.int x1, .int x2, .int x3]) (rest := rest) E.1 hX hP hS hA hM (cw_any (owner := "ShutPasses$Table") (x := ⟨"ShutPasses$Table", "buying", "(III)J"⟩) (y := yX5_buying) (C := "ShutPasses$InMean") (index := 95) (own := RX5) 3 E.1.2.2.2.2 (lw_meth q1187) rfl hz.1 hz.2 (E.1.2.2.2.2 _ q1181) (E.1.2.2.2.2 _ q1183) (va_Decl.of (E.1.2.2.2.2 _ q1182) (E.1.2.2.2.2 _ q1187)) (E.1.2.2.2.2 _ q1185) (E.1.2.2.2.2 _ q1182) (E.1.2.2.2.2 _ q131) (by decide +kernel) hR) (hD.1 _ _ dX_1070) rfl rfl rfl hsz rfl hW hdg hcs kk
/-! X5_betters_TO (II)Z -/
def sgX5_betters_TO (σ : Sto) (w0 : Nat → Int64) : Sto := aL σ 1151 w0
theorem sgX5_betters_TO_self (σ : Sto) : sgX5_betters_TO σ (σ.2.2.2.1 1151) = σ := by
  unfold sgX5_betters_TO
  simp only [zI_self, zL_self, aI_self, aL_self]
theorem sgX5_betters_TO_aL1151 {σ : Sto} {w0 : Nat → Int64} {g : Nat → Int64} : aL (sgX5_betters_TO σ w0) 1151 g = sgX5_betters_TO σ g := aL_aL _ 1151 _ _
theorem sgX5_betters_TO_rzI1072 {σ : Sto} {w0 : Nat → Int64} : (sgX5_betters_TO σ w0).1 1072 = σ.1 1072 := rfl
theorem sgX5_betters_TO_rzI2008 {σ : Sto} {w0 : Nat → Int64} : (sgX5_betters_TO σ w0).1 2008 = σ.1 2008 := rfl
theorem sgX5_betters_TO_rzI2013 {σ : Sto} {w0 : Nat → Int64} : (sgX5_betters_TO σ w0).1 2013 = σ.1 2013 := rfl
theorem sgX5_betters_TO_rzI2027 {σ : Sto} {w0 : Nat → Int64} : (sgX5_betters_TO σ w0).1 2027 = σ.1 2027 := rfl
theorem sgX5_betters_TO_rzI2032 {σ : Sto} {w0 : Nat → Int64} : (sgX5_betters_TO σ w0).1 2032 = σ.1 2032 := rfl
theorem sgX5_betters_TO_rzL1071 {σ : Sto} {w0 : Nat → Int64} : (sgX5_betters_TO σ w0).2.1 1071 = σ.2.1 1071 := rfl
theorem sgX5_betters_TO_raI1170 {σ : Sto} {w0 : Nat → Int64} : (sgX5_betters_TO σ w0).2.2.1 1170 = σ.2.2.1 1170 := rfl
theorem sgX5_betters_TO_raI2037 {σ : Sto} {w0 : Nat → Int64} : (sgX5_betters_TO σ w0).2.2.1 2037 = σ.2.2.1 2037 := rfl
theorem sgX5_betters_TO_raI2043 {σ : Sto} {w0 : Nat → Int64} : (sgX5_betters_TO σ w0).2.2.1 2043 = σ.2.2.1 2043 := rfl
theorem sgX5_betters_TO_raL1143 {σ : Sto} {w0 : Nat → Int64} : (sgX5_betters_TO σ w0).2.2.2.1 1143 = σ.2.2.2.1 1143 := rfl
theorem sgX5_betters_TO_raL1151 {σ : Sto} {w0 : Nat → Int64} : (sgX5_betters_TO σ w0).2.2.2.1 1151 = w0 := rfl
theorem sgX5_betters_TO_rpR2 {σ : Sto} {w0 : Nat → Int64} : (fun k => (sgX5_betters_TO σ w0).1 (6000 + 16 * k + 2)) = (fun k => σ.1 (6000 + 16 * k + 2)) := by
  funext k
  unfold sgX5_betters_TO
  dsimp only [zI, zL, aI, aL]
  repeat rw [if_neg (by omega)]
theorem sgX5_betters_TO_rpR5 {σ : Sto} {w0 : Nat → Int64} : (fun k => (sgX5_betters_TO σ w0).1 (6000 + 16 * k + 5)) = (fun k => σ.1 (6000 + 16 * k + 5)) := by
  funext k
  unfold sgX5_betters_TO
  dsimp only [zI, zL, aI, aL]
  repeat rw [if_neg (by omega)]
theorem sgX5_betters_TO_rpR6 {σ : Sto} {w0 : Nat → Int64} : (fun k => (sgX5_betters_TO σ w0).1 (6000 + 16 * k + 6)) = (fun k => σ.1 (6000 + 16 * k + 6)) := by
  funext k
  unfold sgX5_betters_TO
  dsimp only [zI, zL, aI, aL]
  repeat rw [if_neg (by omega)]
theorem sgX5_betters_TO_rpW0 {σ : Sto} {w0 : Nat → Int64} : (fun k => (sgX5_betters_TO σ w0).1 (8000 + 16 * k + 0)) = (fun k => σ.1 (8000 + 16 * k + 0)) := by
  funext k
  unfold sgX5_betters_TO
  dsimp only [zI, zL, aI, aL]
  repeat rw [if_neg (by omega)]
theorem sgX5_betters_TO_rpW1 {σ : Sto} {w0 : Nat → Int64} : (fun k => (sgX5_betters_TO σ w0).1 (8000 + 16 * k + 1)) = (fun k => σ.1 (8000 + 16 * k + 1)) := by
  funext k
  unfold sgX5_betters_TO
  dsimp only [zI, zL, aI, aL]
  repeat rw [if_neg (by omega)]
theorem sgX5_betters_TO_rpW2 {σ : Sto} {w0 : Nat → Int64} : (fun k => (sgX5_betters_TO σ w0).1 (8000 + 16 * k + 2)) = (fun k => σ.1 (8000 + 16 * k + 2)) := by
  funext k
  unfold sgX5_betters_TO
  dsimp only [zI, zL, aI, aL]
  repeat rw [if_neg (by omega)]
theorem sgX5_betters_TO_rgG0 {σ : Sto} {w0 : Nat → Int64} : (fun k => (sgX5_betters_TO σ w0).2.2.1 (4000 + 16 * k)) = (fun k => σ.2.2.1 (4000 + 16 * k)) := by
  funext k
  unfold sgX5_betters_TO
  dsimp only [zI, zL, aI, aL]
  repeat rw [if_neg (by omega)]
abbrev rmX5_betters_TO : Room := { frames := 45, cells := 0, slots := 0, locals := 1241 }
set_option maxHeartbeats 4000000 in
theorem wkX5_betters_TO {x1 : Int32} {x2 : Int32} {r_ : Int32} {w_aL1151 : Nat → Int64} (E : EN p s m args meth c0 RX5 cX5_betters 8 (Option.some Jvm.ClassFile.FieldType.boolean)) (hX : KX D G ad A s s.heap) (hD : XD dsc nr nw nu) (hA : ∀ q, PA dsc ad s.heap.size q → A q) (hf : xo_X5_betters_TB (σ.1 1072) (σ.1 2008) (σ.1 2013) (σ.1 2027) (σ.1 2032) (σ.2.1 1071) (σ.2.2.1 1170) (σ.2.2.1 2037) (σ.2.2.1 2043) (σ.2.2.2.1 1143) (σ.2.2.2.1 1151) nr nw (fun k => σ.1 (6000 + 16 * k + 2)) (fun k => σ.1 (6000 + 16 * k + 5)) (fun k => σ.1 (6000 + 16 * k + 6)) (fun k => σ.1 (8000 + 16 * k + 0)) (fun k => σ.1 (8000 + 16 * k + 1)) (fun k => σ.1 (8000 + 16 * k + 2)) (fun k => σ.2.2.1 (4000 + 16 * k)) x1 x2 = some (r_, w_aL1151)) (hQ : Q = MQ below (va_G1 (some (.int r_)) (fun t => PIC D clsA G dsc ad (sgX5_betters_TO σ w_aL1151) t.heap) A) args s 0 0 A) (hP : PIC D clsA G dsc ad σ H) (hS : va_S A s.heap H locs) (hl : lv_has ls 8 [(0, .ref (ad 1070)), (1, .int x1), (2, .int x2)]) : W p l e rmX5_betters_TO s m args below meth c0 H locs 0 0 Q (F0 m 0 ls []) := by
  obtain ⟨⟨hx, hb, hml, hown, hts⟩, hr, hlk⟩ := id E
  have hP := hP.to (sgX5_betters_TO_self σ).symm
  unfold xo_X5_betters_TB at hf
  refine lv_aload_n hx hb dX5_betters_0 rfl (lv_at hl 0 rfl) ?_
  refine lv_iload_n hx hb dX5_betters_1 rfl (lv_at hl 1 rfl) ?_
  refine lv_iload_n hx hb dX5_betters_2 rfl (lv_at hl 2 rfl) ?_
  obtain ⟨v1, u2, hf⟩ := bdP hf
  refine cx_X5_81_X5_value_TO E hX hD hP hS hA (kxX5_value_TO l D G hD sgX5_betters_TO_raL1151 u2) ⟨rfl, rfl⟩ ⟨Nat.le_of_ble_eq_true rfl, Nat.le_of_ble_eq_true rfl⟩ ⟨Nat.zero_le _, Nat.zero_le _⟩ hl.1 (Nat.le_of_ble_eq_true rfl) dX5_betters_3 (fun H locs hP hS => ?_)
  refine lv_lstore_n (lv' := [(3, .long v1), (0, .ref (ad 1070)), (1, .int x1), (2, .int x2)]) hx hb dX5_betters_6 rfl hl (by decide) rfl (fun ls hl => ?_)
  refine lv_lload_n hx hb dX5_betters_7 rfl (lv_at hl 0 rfl) ?_
  refine lv_lstore (lv' := [(5, .long v1), (3, .long v1), (0, .ref (ad 1070)), (1, .int x1), (2, .int x2)]) hx hb dX5_betters_8 hl (by decide) rfl (fun ls hl => ?_)
  refine lv_iconst hx hb dX5_betters_10 ic_0 ?_
  refine lv_istore (lv' := [(7, .int 0), (5, .long v1), (3, .long v1), (0, .ref (ad 1070)), (1, .int x1), (2, .int x2)]) hx hb dX5_betters_11 hl (by decide) rfl (fun ls hl => ?_)
  have LP13 : ∀ (st13 : Int64 × Int32) (ex13 : (Int64)), loop (xo_X5_betters_TB_L13 (σ.1 1072) (σ.1 2008) (σ.1 2013) (σ.1 2027) (σ.2.1 1071) (σ.2.2.1 1170) (σ.2.2.1 2043) (σ.2.2.2.1 1143) (σ.2.2.2.1 1151) nr (fun k => σ.1 (6000 + 16 * k + 2)) (fun k => σ.1 (6000 + 16 * k + 5)) (fun k => σ.1 (6000 + 16 * k + 6)) (fun k => σ.2.2.1 (4000 + 16 * k)) x1 x2) st13 = some ex13 → ∀ (H : Heap) (locs : List Loc), PIC D clsA G dsc ad (sgX5_betters_TO σ (σ.2.2.2.1 1151)) H → va_S A s.heap H locs → ∀ (ls : Array Slot), lv_has ls 8 [(0, .ref (ad 1070)), (1, .int x1), (2, .int x2), (3, .long v1), (5, .long (st13.1)), (7, .int (st13.2))] → (∀ (y11 : Int64), ex13 = y11 → ∀ (H : Heap) (locs : List Loc), PIC D clsA G dsc ad (sgX5_betters_TO σ (σ.2.2.2.1 1151)) H → va_S A s.heap H locs → ∀ (ls : Array Slot), lv_has ls 8 [(0, .ref (ad 1070)), (1, .int x1), (2, .int x2), (3, .long v1), (5, .long y11)] → W p l e rmX5_betters_TO s m args below meth c0 H locs 0 0 Q (F0 m 50 ls [])) → W p l e rmX5_betters_TO s m args below meth c0 H locs 0 0 Q (F0 m 13 ls []) := by
    refine loop_P (fun st13 ex13 o13 hf ih13 hx13 => ?_)
    obtain ⟨y3, y4⟩ := st13
    intro H locs (hP : PIC D clsA G dsc ad (sgX5_betters_TO σ (σ.2.2.2.1 1151)) H) hS ls (hl : lv_has ls 8 [(0, .ref (ad 1070)), (1, .int x1), (2, .int x2), (3, .long v1), (5, .long y3), (7, .int y4)]) KE13_0
    dsimp only [xo_X5_betters_TB_L13] at hf
    refine lv_iload hx hb dX5_betters_13 (lv_at hl 5 rfl) ?_
    refine lv_aload_n hx hb dX5_betters_15 rfl (lv_at hl 0 rfl) ?_
    refine gx_X5_3_1070 E hX hD hP dX5_betters_16 ?_
    refine gx_X5_27_1000 E hX hD hP dX5_betters_19 ?_
    refine gx_X5_63_2000 (v := (σ.1 2008)) E hX hD hP sgX5_betters_TO_rzI2008 dX5_betters_22 ?_
    refine lv_icmp_ge (tgt := 50) hx hb dX5_betters_25 (by decide) (fun c5 => ?_) (fun c5 => ?_)
    · have hf := ifT c5 hf
      exact KE13_0 _ (hx13 _ (Option.some.inj hf).symm).symm H locs hP hS ls (lv_sub hl [0, 1, 2, 3, 4] rfl)
    · have hf := ifF c5 hf
      refine lv_aload_n hx hb dX5_betters_28 rfl (lv_at hl 0 rfl) ?_
      refine lv_lload hx hb dX5_betters_29 (lv_at hl 4 rfl) ?_
      refine lv_aload_n hx hb dX5_betters_31 rfl (lv_at hl 0 rfl) ?_
      refine lv_iload_n hx hb dX5_betters_32 rfl (lv_at hl 1 rfl) ?_
      refine lv_iload hx hb dX5_betters_33 (lv_at hl 5 rfl) ?_
      refine lv_iload_n hx hb dX5_betters_35 rfl (lv_at hl 2 rfl) ?_
      obtain ⟨v6, u7, hf⟩ := bdP hf
      refine cx_X5_84_X5_going_TO E hX hD hP hS hA (kxX5_going_TO l D G hD sgX5_betters_TO_rzI1072 sgX5_betters_TO_rzI2013 sgX5_betters_TO_rzI2027 sgX5_betters_TO_rzL1071 sgX5_betters_TO_raI1170 sgX5_betters_TO_raI2043 sgX5_betters_TO_raL1143 sgX5_betters_TO_raL1151 rfl sgX5_betters_TO_rpR2 sgX5_betters_TO_rpR5 sgX5_betters_TO_rpR6 sgX5_betters_TO_rgG0 u7) ⟨rfl, rfl⟩ ⟨Nat.le_of_ble_eq_true rfl, Nat.le_of_ble_eq_true rfl⟩ ⟨Nat.zero_le _, Nat.zero_le _⟩ hl.1 (Nat.le_of_ble_eq_true rfl) dX5_betters_36 (fun H locs hP hS => ?_)
      obtain ⟨v8, u9, hf⟩ := bdP hf
      refine cx_X5_88_X5_better_TO E hX hD hP hS hA (kxX5_better_TO l D G hD sgX5_betters_TO_rzL1071 u9) ⟨rfl, rfl⟩ ⟨Nat.le_of_ble_eq_true rfl, Nat.le_of_ble_eq_true rfl⟩ ⟨Nat.zero_le _, Nat.zero_le _⟩ hl.1 (Nat.le_of_ble_eq_true rfl) dX5_betters_39 (fun H locs hP hS => ?_)
      refine lv_lstore (lv' := [(5, .long v8), (0, .ref (ad 1070)), (1, .int x1), (2, .int x2), (3, .long v1), (7, .int y4)]) hx hb dX5_betters_42 hl (by decide) rfl (fun ls hl => ?_)
      obtain ⟨v10, hv10, hf⟩ := bdP hf
      refine lv_iinc (v := v10) (lv' := [(7, .int v10), (5, .long v8), (0, .ref (ad 1070)), (1, .int x1), (2, .int x2), (3, .long v1)]) hx hb dX5_betters_44 hl (k := 5) rfl (Option.some.inj hv10) (by decide) rfl (fun ls hl => ?_)
      refine lv_goto (tgt := 13) hx hb dX5_betters_47 (by decide) ?_
      exact ih13 _ (Option.some.inj hf).symm H locs hP hS ls (lv_sub hl [2, 3, 4, 5, 1, 0] rfl) KE13_0
  obtain ⟨ex13, hlp13, hf⟩ := bdP hf
  refine LP13 (v1, 0) ex13 hlp13 H locs hP hS ls (lv_sub hl [3, 4, 5, 2, 1, 0] rfl) ?_
  intro y11 hex13 H locs hP hS ls hl
  subst ex13
  refine lv_iconst hx hb dX5_betters_50 ic_0 ?_
  refine lv_istore (lv' := [(7, .int 0), (0, .ref (ad 1070)), (1, .int x1), (2, .int x2), (3, .long v1), (5, .long y11)]) hx hb dX5_betters_51 hl (by decide) rfl (fun ls hl => ?_)
  have LP53 : ∀ (st53 : Int64 × Int32) (ex53 : (Int64)), loop (xo_X5_betters_TB_L53 (σ.1 1072) (σ.1 2013) (σ.1 2027) (σ.1 2032) (σ.2.1 1071) (σ.2.2.1 1170) (σ.2.2.1 2037) (σ.2.2.1 2043) (σ.2.2.2.1 1143) (σ.2.2.2.1 1151) nw (fun k => σ.1 (8000 + 16 * k + 0)) (fun k => σ.1 (8000 + 16 * k + 1)) (fun k => σ.1 (8000 + 16 * k + 2)) x1 x2) st53 = some ex53 → ∀ (H : Heap) (locs : List Loc), PIC D clsA G dsc ad (sgX5_betters_TO σ (σ.2.2.2.1 1151)) H → va_S A s.heap H locs → ∀ (ls : Array Slot), lv_has ls 8 [(0, .ref (ad 1070)), (1, .int x1), (2, .int x2), (3, .long v1), (5, .long (st53.1)), (7, .int (st53.2))] → (∀ (y22 : Int64), ex53 = y22 → ∀ (H : Heap) (locs : List Loc), PIC D clsA G dsc ad (sgX5_betters_TO σ (σ.2.2.2.1 1151)) H → va_S A s.heap H locs → ∀ (ls : Array Slot), lv_has ls 8 [(0, .ref (ad 1070)), (1, .int x1), (2, .int x2), (3, .long v1), (5, .long y22)] → W p l e rmX5_betters_TO s m args below meth c0 H locs 0 0 Q (F0 m 93 ls [])) → W p l e rmX5_betters_TO s m args below meth c0 H locs 0 0 Q (F0 m 53 ls []) := by
    refine loop_P (fun st53 ex53 o53 hf ih53 hx53 => ?_)
    obtain ⟨y12, y13⟩ := st53
    intro H locs (hP : PIC D clsA G dsc ad (sgX5_betters_TO σ (σ.2.2.2.1 1151)) H) hS ls (hl : lv_has ls 8 [(0, .ref (ad 1070)), (1, .int x1), (2, .int x2), (3, .long v1), (5, .long y12), (7, .int y13)]) KE53_0
    dsimp only [xo_X5_betters_TB_L53] at hf
    refine lv_iload hx hb dX5_betters_53 (lv_at hl 5 rfl) ?_
    refine lv_aload_n hx hb dX5_betters_55 rfl (lv_at hl 0 rfl) ?_
    refine gx_X5_3_1070 E hX hD hP dX5_betters_56 ?_
    refine gx_X5_27_1000 E hX hD hP dX5_betters_59 ?_
    refine gx_X5_92_2000 E hX hD hP dX5_betters_62 ?_
    obtain ⟨v14, u15, hf⟩ := bdP hf
    refine cx_X5_37_J2_size_Lw E hX hD hP hS hA (kxJ2_size_Lw l D G hD sgX5_betters_TO_rzI2032 u15) ⟨rfl, rfl⟩ ⟨Nat.le_of_ble_eq_true rfl, Nat.le_of_ble_eq_true rfl⟩ ⟨Nat.zero_le _, Nat.zero_le _⟩ hl.1 (Nat.le_of_ble_eq_true rfl) dX5_betters_65 (fun H locs hP hS => ?_)
    refine lv_icmp_ge (tgt := 93) hx hb dX5_betters_68 (by decide) (fun c16 => ?_) (fun c16 => ?_)
    · have hf := ifT c16 hf
      exact KE53_0 _ (hx53 _ (Option.some.inj hf).symm).symm H locs hP hS ls (lv_sub hl [0, 1, 2, 3, 4] rfl)
    · have hf := ifF c16 hf
      refine lv_aload_n hx hb dX5_betters_71 rfl (lv_at hl 0 rfl) ?_
      refine lv_lload hx hb dX5_betters_72 (lv_at hl 4 rfl) ?_
      refine lv_aload_n hx hb dX5_betters_74 rfl (lv_at hl 0 rfl) ?_
      refine lv_iload_n hx hb dX5_betters_75 rfl (lv_at hl 1 rfl) ?_
      refine lv_iload hx hb dX5_betters_76 (lv_at hl 5 rfl) ?_
      refine lv_iload_n hx hb dX5_betters_78 rfl (lv_at hl 2 rfl) ?_
      obtain ⟨v17, u18, hf⟩ := bdP hf
      refine cx_X5_95_X5_buying_TO E hX hD hP hS hA (kxX5_buying_TO l D G hD sgX5_betters_TO_rzI1072 sgX5_betters_TO_rzI2013 sgX5_betters_TO_rzI2027 sgX5_betters_TO_rzI2032 sgX5_betters_TO_rzL1071 sgX5_betters_TO_raI1170 sgX5_betters_TO_raI2037 sgX5_betters_TO_raI2043 sgX5_betters_TO_raL1143 sgX5_betters_TO_raL1151 rfl sgX5_betters_TO_rpW0 sgX5_betters_TO_rpW1 sgX5_betters_TO_rpW2 u18) ⟨rfl, rfl⟩ ⟨Nat.le_of_ble_eq_true rfl, Nat.le_of_ble_eq_true rfl⟩ ⟨Nat.zero_le _, Nat.zero_le _⟩ hl.1 (Nat.le_of_ble_eq_true rfl) dX5_betters_79 (fun H locs hP hS => ?_)
      obtain ⟨v19, u20, hf⟩ := bdP hf
      refine cx_X5_88_X5_better_TO E hX hD hP hS hA (kxX5_better_TO l D G hD sgX5_betters_TO_rzL1071 u20) ⟨rfl, rfl⟩ ⟨Nat.le_of_ble_eq_true rfl, Nat.le_of_ble_eq_true rfl⟩ ⟨Nat.zero_le _, Nat.zero_le _⟩ hl.1 (Nat.le_of_ble_eq_true rfl) dX5_betters_82 (fun H locs hP hS => ?_)
      refine lv_lstore (lv' := [(5, .long v19), (0, .ref (ad 1070)), (1, .int x1), (2, .int x2), (3, .long v1), (7, .int y13)]) hx hb dX5_betters_85 hl (by decide) rfl (fun ls hl => ?_)
      obtain ⟨v21, hv21, hf⟩ := bdP hf
      refine lv_iinc (v := v21) (lv' := [(7, .int v21), (5, .long v19), (0, .ref (ad 1070)), (1, .int x1), (2, .int x2), (3, .long v1)]) hx hb dX5_betters_87 hl (k := 5) rfl (Option.some.inj hv21) (by decide) rfl (fun ls hl => ?_)
      refine lv_goto (tgt := 53) hx hb dX5_betters_90 (by decide) ?_
      exact ih53 _ (Option.some.inj hf).symm H locs hP hS ls (lv_sub hl [2, 3, 4, 5, 1, 0] rfl) KE53_0
  obtain ⟨ex53, hlp53, hf⟩ := bdP hf
  refine LP53 (y11, 0) ex53 hlp53 H locs hP hS ls (lv_sub hl [1, 2, 3, 4, 5, 0] rfl) ?_
  intro y22 hex53 H locs hP hS ls hl
  subst ex53
  refine lv_aload_n hx hb dX5_betters_93 rfl (lv_at hl 0 rfl) ?_
  refine gx_X5_15_1070 E hX hD hP dX5_betters_94 ?_
  refine lv_bipush hx hb dX5_betters_97 bp_10 ?_
  refine lv_iload_n hx hb dX5_betters_99 rfl (lv_at hl 2 rfl) ?_
  refine lv_imul hx hb dX5_betters_100 ?_
  refine lv_iload_n hx hb dX5_betters_101 rfl (lv_at hl 1 rfl) ?_
  refine lv_iadd hx hb dX5_betters_102 ?_
  refine lv_lload hx hb dX5_betters_103 (lv_at hl 4 rfl) ?_
  obtain ⟨a23, ha23, hf⟩ := bdP hf
  refine p_last hx hb hX.1 hP hS (hA _ (PA_c (hD.1 _ _ dX_1151))) (hD.1 _ _ dX_1151) sgX5_betters_TO_raL1151 ha23 sgX5_betters_TO_aL1151 dX5_betters_105 (fun H locs hP hS => ?_)
  refine lv_lload hx hb dX5_betters_106 (lv_at hl 4 rfl) ?_
  refine lv_lload_n hx hb dX5_betters_108 rfl (lv_at hl 3 rfl) ?_
  refine W.lcmp hx hb dX5_betters_109 ?_
  refine lv_if_eq (tgt := 117) hx hb dX5_betters_110 (by decide) (fun c24 => ?_) (fun c24 => ?_)
  · have hf := ifT ((lgc_eq _ _).mp c24) hf
    refine lv_iconst hx hb dX5_betters_117 ic_0 ?_
    cases hf
    rw [hQ]; exact g_nret hx hb hr hlk hP hS rfl dX5_betters_118
  · have hf := ifF (mt (lgc_eq _ _).mpr c24) hf
    refine lv_iconst hx hb dX5_betters_113 ic_1 ?_
    refine lv_goto (tgt := 118) hx hb dX5_betters_114 (by decide) ?_
    cases hf
    rw [hQ]; exact g_nret hx hb hr hlk hP hS rfl dX5_betters_118
theorem kxX5_betters_TO (l : Launch) (D : va_G) (G : Nat → ClassId) {dsc : Nat → Option Dsc} {ad : Nat → Nat} {σ : Sto} {nr nw nu : Nat} (hD : XD dsc nr nw nu) {x1 : Int32} {x2 : Int32} {r_ : Int32} {w_aL1151 : Nat → Int64} {z_TO_by : Int32} (e_zI1072 : σ.1 1072 = z_TO_by) {z_L_places : Int32} (e_zI2008 : σ.1 2008 = z_L_places) {z_L_to : Int32} (e_zI2013 : σ.1 2013 = z_L_to) {z_Ld_size : Int32} (e_zI2027 : σ.1 2027 = z_Ld_size) {z_Lw_size : Int32} (e_zI2032 : σ.1 2032 = z_Lw_size) {z_TO_none : Int64} (e_zL1071 : σ.2.1 1071 = z_TO_none) {a_UNIT : Nat → Int32} (e_aI1170 : σ.2.2.1 1170 = a_UNIT) {a_Lw_data : Nat → Int32} (e_aI2037 : σ.2.2.1 2037 = a_Lw_data) {a_L_seen : Nat → Int32} (e_aI2043 : σ.2.2.1 2043 = a_L_seen) {a_O_likely : Nat → Int64} (e_aL1143 : σ.2.2.2.1 1143 = a_O_likely) {a_TO_value : Nat → Int64} (e_aL1151 : σ.2.2.2.1 1151 = a_TO_value) {n_r : Nat} (e_nN0 : nr = n_r) {n_w : Nat} (e_nN1 : nw = n_w) {p_road_hours : Nat → Int32} (e_pR2 : (fun k => σ.1 (6000 + 16 * k + 2)) = p_road_hours) {p_road_wait : Nat → Int32} (e_pR5 : (fun k => σ.1 (6000 + 16 * k + 5)) = p_road_wait) {p_road_number : Nat → Int32} (e_pR6 : (fun k => σ.1 (6000 + 16 * k + 6)) = p_road_number) {p_word_place : Nat → Int32} (e_pW0 : (fun k => σ.1 (8000 + 16 * k + 0)) = p_word_place) {p_word_road : Nat → Int32} (e_pW1 : (fun k => σ.1 (8000 + 16 * k + 1)) = p_word_road) {p_word_hours : Nat → Int32} (e_pW2 : (fun k => σ.1 (8000 + 16 * k + 2)) = p_word_hours) {g_grid : Nat → Nat → Int32} (e_gG0 : (fun k => σ.2.2.1 (4000 + 16 * k)) = g_grid) (hf : xo_X5_betters_TB z_TO_by z_L_places z_L_to z_Ld_size z_Lw_size z_TO_none a_UNIT a_Lw_data a_L_seen a_O_likely a_TO_value n_r n_w p_road_hours p_road_wait p_road_number p_word_place p_word_road p_word_hours g_grid x1 x2 = some (r_, w_aL1151)) : CtG l D G dsc ad yX5_betters (ws_ yX5_betters cX5_betters 8 (Option.some Jvm.ClassFile.FieldType.boolean)) rmX5_betters_TO [.ref (ad 1070), .int x1, .int x2] σ (some (.int r_)) (aL σ 1151 w_aL1151) := by
  subst e_zI1072
  subst e_zI2008
  subst e_zI2013
  subst e_zI2027
  subst e_zI2032
  subst e_zL1071
  subst e_aI1170
  subst e_aI2037
  subst e_aI2043
  subst e_aL1143
  subst e_aL1151
  subst e_nN0
  subst e_nN1
  subst e_pR2
  subst e_pR5
  subst e_pR6
  subst e_pW0
  subst e_pW1
  subst e_pW2
  subst e_gG0
  exact p_ctG (by decide +kernel) (Nat.le_of_ble_eq_true rfl) (fun p e s m below meth c0 ls A E hP hX hA hS hl => wkX5_betters_TO E hX hD hA hf rfl hP hS hl)
theorem cx_X5_77_X5_betters_TO {rm : Room} {σ1 : Sto} {x1 : Int32} {x2 : Int32} {r : Int32} (E : EN p s m args meth c0 RX5 cc nL ret) (hX : KX D G ad A s s.heap) (hD : XD dsc nr nw nu) (hP : PIC D clsA G dsc ad σ H) (hS : va_S A s.heap H locs) (hA : ∀ q, PA dsc ad s.heap.size q → A q) (hM : CtG l D G dsc ad yX5_betters (ws_ yX5_betters cX5_betters 8 (Option.some Jvm.ClassFile.FieldType.boolean)) rm [.ref (ad 1070), .int x1, .int x2] σ (some (.int r)) σ1) (hz : rm.cells = 0 ∧ rm.slots = 0) (hR : rm.frames + 1 ≤ R.frames ∧ 8 + (8 + 11) + rm.locals ≤ R.locals) (hcs : cells ≤ R.cells ∧ slots ≤ R.slots) (hsz : ls.size = nL) (hW : (rest.map fun v => v.category).sum ≤ 8) (hdg : decode cc pc = .ok (.invokevirtual 77, 3)) (kk : ∀ (H1 : Heap) (locs1 : List Loc), PIC D clsA G dsc ad σ1 H1 → va_S A s.heap H1 locs1 → W p l e R s m args below meth c0 H1 locs1 cells slots Q (F0 m (pc + 3) ls (.int r :: rest))) : W p l e R s m args below meth c0 H locs cells slots Q (F0 m pc ls (.int x2 :: .int x1 :: .ref (ad 1070) :: rest)) :=
  p_gU (As := [.int x1, .int x2]) (rest := rest) E.1 hX hP hS hA hM (cw_any (owner := "ShutPasses$Table") (x := ⟨"ShutPasses$Table", "betters", "(II)Z"⟩) (y := yX5_betters) (C := "ShutPasses$InMean") (index := 77) (own := RX5) 2 E.1.2.2.2.2 (lw_meth q1089) rfl hz.1 hz.2 (E.1.2.2.2.2 _ q1086) (E.1.2.2.2.2 _ q2279) (va_Decl.of (E.1.2.2.2.2 _ q1088) (E.1.2.2.2.2 _ q1089)) (va_Nw.use rfl (hX.2.1.2 ("ShutPasses$InMean", yX5_betters) (by decide +kernel))) (E.1.2.2.2.2 _ q1088) (E.1.2.2.2.2 _ q131) (by decide +kernel) hR) (hD.1 _ _ dX_1070) rfl rfl rfl hsz rfl hW hdg hcs kk
/-! X5_lay_2_TO (I)V -/
def sgX5_lay_2_TO (σ : Sto) (w0 : Nat → Int64) : Sto := aL σ 1151 w0
theorem sgX5_lay_2_TO_self (σ : Sto) : sgX5_lay_2_TO σ (σ.2.2.2.1 1151) = σ := by
  unfold sgX5_lay_2_TO
  simp only [zI_self, zL_self, aI_self, aL_self]
theorem sgX5_lay_2_TO_aL1151 {σ : Sto} {w0 : Nat → Int64} {g : Nat → Int64} : aL (sgX5_lay_2_TO σ w0) 1151 g = sgX5_lay_2_TO σ g := aL_aL _ 1151 _ _
theorem sgX5_lay_2_TO_rzI1072 {σ : Sto} {w0 : Nat → Int64} : (sgX5_lay_2_TO σ w0).1 1072 = σ.1 1072 := rfl
theorem sgX5_lay_2_TO_rzI2008 {σ : Sto} {w0 : Nat → Int64} : (sgX5_lay_2_TO σ w0).1 2008 = σ.1 2008 := rfl
theorem sgX5_lay_2_TO_rzI2013 {σ : Sto} {w0 : Nat → Int64} : (sgX5_lay_2_TO σ w0).1 2013 = σ.1 2013 := rfl
theorem sgX5_lay_2_TO_rzI2027 {σ : Sto} {w0 : Nat → Int64} : (sgX5_lay_2_TO σ w0).1 2027 = σ.1 2027 := rfl
theorem sgX5_lay_2_TO_rzI2032 {σ : Sto} {w0 : Nat → Int64} : (sgX5_lay_2_TO σ w0).1 2032 = σ.1 2032 := rfl
theorem sgX5_lay_2_TO_rzL1071 {σ : Sto} {w0 : Nat → Int64} : (sgX5_lay_2_TO σ w0).2.1 1071 = σ.2.1 1071 := rfl
theorem sgX5_lay_2_TO_raI1170 {σ : Sto} {w0 : Nat → Int64} : (sgX5_lay_2_TO σ w0).2.2.1 1170 = σ.2.2.1 1170 := rfl
theorem sgX5_lay_2_TO_raI2037 {σ : Sto} {w0 : Nat → Int64} : (sgX5_lay_2_TO σ w0).2.2.1 2037 = σ.2.2.1 2037 := rfl
theorem sgX5_lay_2_TO_raI2043 {σ : Sto} {w0 : Nat → Int64} : (sgX5_lay_2_TO σ w0).2.2.1 2043 = σ.2.2.1 2043 := rfl
theorem sgX5_lay_2_TO_raL1143 {σ : Sto} {w0 : Nat → Int64} : (sgX5_lay_2_TO σ w0).2.2.2.1 1143 = σ.2.2.2.1 1143 := rfl
theorem sgX5_lay_2_TO_raL1151 {σ : Sto} {w0 : Nat → Int64} : (sgX5_lay_2_TO σ w0).2.2.2.1 1151 = w0 := rfl
theorem sgX5_lay_2_TO_rpR2 {σ : Sto} {w0 : Nat → Int64} : (fun k => (sgX5_lay_2_TO σ w0).1 (6000 + 16 * k + 2)) = (fun k => σ.1 (6000 + 16 * k + 2)) := by
  funext k
  unfold sgX5_lay_2_TO
  dsimp only [zI, zL, aI, aL]
  repeat rw [if_neg (by omega)]
theorem sgX5_lay_2_TO_rpR5 {σ : Sto} {w0 : Nat → Int64} : (fun k => (sgX5_lay_2_TO σ w0).1 (6000 + 16 * k + 5)) = (fun k => σ.1 (6000 + 16 * k + 5)) := by
  funext k
  unfold sgX5_lay_2_TO
  dsimp only [zI, zL, aI, aL]
  repeat rw [if_neg (by omega)]
theorem sgX5_lay_2_TO_rpR6 {σ : Sto} {w0 : Nat → Int64} : (fun k => (sgX5_lay_2_TO σ w0).1 (6000 + 16 * k + 6)) = (fun k => σ.1 (6000 + 16 * k + 6)) := by
  funext k
  unfold sgX5_lay_2_TO
  dsimp only [zI, zL, aI, aL]
  repeat rw [if_neg (by omega)]
theorem sgX5_lay_2_TO_rpW0 {σ : Sto} {w0 : Nat → Int64} : (fun k => (sgX5_lay_2_TO σ w0).1 (8000 + 16 * k + 0)) = (fun k => σ.1 (8000 + 16 * k + 0)) := by
  funext k
  unfold sgX5_lay_2_TO
  dsimp only [zI, zL, aI, aL]
  repeat rw [if_neg (by omega)]
theorem sgX5_lay_2_TO_rpW1 {σ : Sto} {w0 : Nat → Int64} : (fun k => (sgX5_lay_2_TO σ w0).1 (8000 + 16 * k + 1)) = (fun k => σ.1 (8000 + 16 * k + 1)) := by
  funext k
  unfold sgX5_lay_2_TO
  dsimp only [zI, zL, aI, aL]
  repeat rw [if_neg (by omega)]
theorem sgX5_lay_2_TO_rpW2 {σ : Sto} {w0 : Nat → Int64} : (fun k => (sgX5_lay_2_TO σ w0).1 (8000 + 16 * k + 2)) = (fun k => σ.1 (8000 + 16 * k + 2)) := by
  funext k
  unfold sgX5_lay_2_TO
  dsimp only [zI, zL, aI, aL]
  repeat rw [if_neg (by omega)]
theorem sgX5_lay_2_TO_rgG0 {σ : Sto} {w0 : Nat → Int64} : (fun k => (sgX5_lay_2_TO σ w0).2.2.1 (4000 + 16 * k)) = (fun k => σ.2.2.1 (4000 + 16 * k)) := by
  funext k
  unfold sgX5_lay_2_TO
  dsimp only [zI, zL, aI, aL]
  repeat rw [if_neg (by omega)]
abbrev rmX5_lay_2_TO : Room := { frames := 46, cells := 0, slots := 0, locals := 1268 }
set_option maxHeartbeats 4000000 in
theorem wkX5_lay_2_TO {x1 : Int32} {w_aL1151 : Nat → Int64} (E : EN p s m args meth c0 RX5 cX5_lay_2 4 (Option.none : Option Jvm.ClassFile.FieldType)) (hX : KX D G ad A s s.heap) (hD : XD dsc nr nw nu) (hA : ∀ q, PA dsc ad s.heap.size q → A q) (hf : xo_X5_lay_2_TB (σ.1 1072) (σ.1 2008) (σ.1 2013) (σ.1 2027) (σ.1 2032) (σ.2.1 1071) (σ.2.2.1 1170) (σ.2.2.1 2037) (σ.2.2.1 2043) (σ.2.2.2.1 1143) (σ.2.2.2.1 1151) nr nw (fun k => σ.1 (6000 + 16 * k + 2)) (fun k => σ.1 (6000 + 16 * k + 5)) (fun k => σ.1 (6000 + 16 * k + 6)) (fun k => σ.1 (8000 + 16 * k + 0)) (fun k => σ.1 (8000 + 16 * k + 1)) (fun k => σ.1 (8000 + 16 * k + 2)) (fun k => σ.2.2.1 (4000 + 16 * k)) x1 = some w_aL1151) (hQ : Q = MQ below (va_G1 none (fun t => PIC D clsA G dsc ad (sgX5_lay_2_TO σ w_aL1151) t.heap) A) args s 0 0 A) (hP : PIC D clsA G dsc ad σ H) (hS : va_S A s.heap H locs) (hl : lv_has ls 4 [(0, .ref (ad 1070)), (1, .int x1)]) : W p l e rmX5_lay_2_TO s m args below meth c0 H locs 0 0 Q (F0 m 0 ls []) := by
  obtain ⟨⟨hx, hb, hml, hown, hts⟩, hr, hlk⟩ := id E
  have hP := hP.to (sgX5_lay_2_TO_self σ).symm
  unfold xo_X5_lay_2_TB at hf
  refine lv_iconst hx hb dX5_lay_2_0 ic_0 ?_
  refine lv_istore_n (lv' := [(2, .int 0), (0, .ref (ad 1070)), (1, .int x1)]) hx hb dX5_lay_2_1 rfl hl (by decide) rfl (fun ls hl => ?_)
  have LP2 : ∀ (st2 : Int32 × (Nat → Int64)) (ex2 : ((Nat → Int64))), loop (xo_X5_lay_2_TB_L2 (σ.1 2008) (σ.1 2013) (σ.2.1 1071) x1) st2 = some ex2 → ∀ (H : Heap) (locs : List Loc), PIC D clsA G dsc ad (sgX5_lay_2_TO σ (st2.2)) H → va_S A s.heap H locs → ∀ (ls : Array Slot), lv_has ls 4 [(0, .ref (ad 1070)), (1, .int x1), (2, .int (st2.1))] → (∀ (a11 : Nat → Int64), ex2 = a11 → ∀ (H : Heap) (locs : List Loc), PIC D clsA G dsc ad (sgX5_lay_2_TO σ a11) H → va_S A s.heap H locs → ∀ (ls : Array Slot), lv_has ls 4 [(0, .ref (ad 1070)), (1, .int x1)] → W p l e rmX5_lay_2_TO s m args below meth c0 H locs 0 0 Q (F0 m 59 ls [])) → W p l e rmX5_lay_2_TO s m args below meth c0 H locs 0 0 Q (F0 m 2 ls []) := by
    refine loop_P (fun st2 ex2 o2 hf ih2 hx2 => ?_)
    obtain ⟨y1, a2⟩ := st2
    intro H locs (hP : PIC D clsA G dsc ad (sgX5_lay_2_TO σ a2) H) hS ls (hl : lv_has ls 4 [(0, .ref (ad 1070)), (1, .int x1), (2, .int y1)]) KE2_0
    dsimp only [xo_X5_lay_2_TB_L2] at hf
    refine lv_iload_n hx hb dX5_lay_2_2 rfl (lv_at hl 2 rfl) ?_
    refine lv_aload_n hx hb dX5_lay_2_3 rfl (lv_at hl 0 rfl) ?_
    refine gx_X5_3_1070 E hX hD hP dX5_lay_2_4 ?_
    refine gx_X5_27_1000 E hX hD hP dX5_lay_2_7 ?_
    refine gx_X5_63_2000 (v := (σ.1 2008)) E hX hD hP sgX5_lay_2_TO_rzI2008 dX5_lay_2_10 ?_
    refine lv_icmp_ge (tgt := 59) hx hb dX5_lay_2_13 (by decide) (fun c3 => ?_) (fun c3 => ?_)
    · have hf := ifT c3 hf
      exact KE2_0 _ (hx2 _ (Option.some.inj hf).symm).symm H locs hP hS ls (lv_sub hl [0, 1] rfl)
    · have hf := ifF c3 hf
      refine lv_aload_n hx hb dX5_lay_2_16 rfl (lv_at hl 0 rfl) ?_
      refine gx_X5_15_1070 E hX hD hP dX5_lay_2_17 ?_
      refine lv_bipush hx hb dX5_lay_2_20 bp_10 ?_
      refine lv_iload_n hx hb dX5_lay_2_22 rfl (lv_at hl 1 rfl) ?_
      refine lv_imul hx hb dX5_lay_2_23 ?_
      refine lv_iload_n hx hb dX5_lay_2_24 rfl (lv_at hl 2 rfl) ?_
      refine lv_iadd hx hb dX5_lay_2_25 ?_
      refine lv_iload_n hx hb dX5_lay_2_26 rfl (lv_at hl 2 rfl) ?_
      refine lv_aload_n hx hb dX5_lay_2_27 rfl (lv_at hl 0 rfl) ?_
      refine gx_X5_3_1070 E hX hD hP dX5_lay_2_28 ?_
      refine gx_X5_27_1000 E hX hD hP dX5_lay_2_31 ?_
      refine gx_X5_67_2000 (v := (σ.1 2013)) E hX hD hP sgX5_lay_2_TO_rzI2013 dX5_lay_2_34 ?_
      have J52 : ∀ (k4 : Int64) (k5 : Int32), xo_X5_lay_2_TB_J52 y1 a2 k4 k5 = some o2 → ∀ (H : Heap) (locs : List Loc), PIC D clsA G dsc ad (sgX5_lay_2_TO σ a2) H → va_S A s.heap H locs → ∀ (ls : Array Slot), lv_has ls 4 [(0, .ref (ad 1070)), (1, .int x1), (2, .int y1)] → W p l e rmX5_lay_2_TO s m args below meth c0 H locs 0 0 Q (F0 m 52 ls [.long k4, .int k5, .ref (ad 1151)]) := by
        intro k4 k5 hf H locs hP hS ls hl
        unfold xo_X5_lay_2_TB_J52 at hf
        obtain ⟨a6, ha6, hf⟩ := bdP hf
        refine p_last hx hb hX.1 hP hS (hA _ (PA_c (hD.1 _ _ dX_1151))) (hD.1 _ _ dX_1151) sgX5_lay_2_TO_raL1151 ha6 sgX5_lay_2_TO_aL1151 dX5_lay_2_52 (fun H locs hP hS => ?_)
        obtain ⟨v7, hv7, hf⟩ := bdP hf
        refine lv_iinc (v := v7) (lv' := [(2, .int v7), (0, .ref (ad 1070)), (1, .int x1)]) hx hb dX5_lay_2_53 hl (k := 2) rfl (Option.some.inj hv7) (by decide) rfl (fun ls hl => ?_)
        refine lv_goto (tgt := 2) hx hb dX5_lay_2_56 (by decide) ?_
        exact ih2 _ (Option.some.inj hf).symm H locs hP hS ls (lv_sub hl [1, 2, 0] rfl) KE2_0
      refine lv_icmp_ne (tgt := 48) hx hb dX5_lay_2_37 (by decide) (fun c8 => ?_) (fun c8 => ?_)
      · have hf := ifF c8 hf
        refine lv_aload_n hx hb dX5_lay_2_48 rfl (lv_at hl 0 rfl) ?_
        refine gx_X5_19_1070 (v := (σ.2.1 1071)) E hX hD hP sgX5_lay_2_TO_rzL1071 dX5_lay_2_49 ?_
        exact J52 (σ.2.1 1071) ((10 * x1) + y1) hf H locs hP hS ls (lv_sub hl [0, 1, 2] rfl)
      · have hf := ifT c8 hf
        refine lv_aload_n hx hb dX5_lay_2_40 rfl (lv_at hl 0 rfl) ?_
        refine lv_iload_n hx hb dX5_lay_2_41 rfl (lv_at hl 1 rfl) ?_
        obtain ⟨v9, u10, hf⟩ := bdP hf
        refine cx_X5_70_X6_end_TO E hX hD hP hS hA (kxX6_end_TO l D G hD u10) ⟨rfl, rfl⟩ ⟨Nat.le_of_ble_eq_true rfl, Nat.le_of_ble_eq_true rfl⟩ ⟨Nat.zero_le _, Nat.zero_le _⟩ hl.1 (Nat.le_of_ble_eq_true rfl) dX5_lay_2_42 (fun H locs hP hS => ?_)
        refine lv_goto (tgt := 52) hx hb dX5_lay_2_45 (by decide) ?_
        exact J52 v9 ((10 * x1) + y1) hf H locs hP hS ls (lv_sub hl [0, 1, 2] rfl)
  obtain ⟨ex2, hlp2, hf⟩ := bdP hf
  refine LP2 (0, (σ.2.2.2.1 1151)) ex2 hlp2 H locs hP hS ls (lv_sub hl [1, 2, 0] rfl) ?_
  intro a11 hex2 H locs hP hS ls hl
  subst ex2
  refine lv_iconst hx hb dX5_lay_2_59 ic_1 ?_
  refine lv_istore_n (lv' := [(2, .int 1), (0, .ref (ad 1070)), (1, .int x1)]) hx hb dX5_lay_2_60 rfl hl (by decide) rfl (fun ls hl => ?_)
  have LP61 : ∀ (st61 : Int32 × (Nat → Int64)) (ex61 : ((Nat → Int64))), loop (xo_X5_lay_2_TB_L61 (σ.1 1072) (σ.1 2008) (σ.1 2013) (σ.1 2027) (σ.1 2032) (σ.2.1 1071) (σ.2.2.1 1170) (σ.2.2.1 2037) (σ.2.2.1 2043) (σ.2.2.2.1 1143) nr nw (fun k => σ.1 (6000 + 16 * k + 2)) (fun k => σ.1 (6000 + 16 * k + 5)) (fun k => σ.1 (6000 + 16 * k + 6)) (fun k => σ.1 (8000 + 16 * k + 0)) (fun k => σ.1 (8000 + 16 * k + 1)) (fun k => σ.1 (8000 + 16 * k + 2)) (fun k => σ.2.2.1 (4000 + 16 * k)) x1) st61 = some ex61 → ∀ (H : Heap) (locs : List Loc), PIC D clsA G dsc ad (sgX5_lay_2_TO σ (st61.2)) H → va_S A s.heap H locs → ∀ (ls : Array Slot), lv_has ls 4 [(0, .ref (ad 1070)), (1, .int x1), (2, .int (st61.1))] → (∀ (a32 : Nat → Int64), ex61 = a32 → ∀ (H : Heap) (locs : List Loc), PIC D clsA G dsc ad (sgX5_lay_2_TO σ a32) H → va_S A s.heap H locs → ∀ (ls : Array Slot), lv_has ls 4 [] → W p l e rmX5_lay_2_TO s m args below meth c0 H locs 0 0 Q (F0 m 130 ls [])) → W p l e rmX5_lay_2_TO s m args below meth c0 H locs 0 0 Q (F0 m 61 ls []) := by
    refine loop_P (fun st61 ex61 o61 hf ih61 hx61 => ?_)
    obtain ⟨y12, a13⟩ := st61
    intro H locs (hP : PIC D clsA G dsc ad (sgX5_lay_2_TO σ a13) H) hS ls (hl : lv_has ls 4 [(0, .ref (ad 1070)), (1, .int x1), (2, .int y12)]) KE61_0
    dsimp only [xo_X5_lay_2_TB_L61] at hf
    refine lv_iload_n hx hb dX5_lay_2_61 rfl (lv_at hl 2 rfl) ?_
    refine lv_if_eq (tgt := 130) hx hb dX5_lay_2_62 (by decide) (fun c14 => ?_) (fun c14 => ?_)
    · have hf := ifT c14 hf
      exact KE61_0 _ (hx61 _ (Option.some.inj hf).symm).symm H locs hP hS ls (lv_sub hl [] rfl)
    · have hf := ifF c14 hf
      refine lv_iconst hx hb dX5_lay_2_65 ic_0 ?_
      refine lv_istore_n (lv' := [(2, .int 0), (0, .ref (ad 1070)), (1, .int x1)]) hx hb dX5_lay_2_66 rfl hl (by decide) rfl (fun ls hl => ?_)
      refine lv_iconst hx hb dX5_lay_2_67 ic_0 ?_
      refine lv_istore_n (lv' := [(3, .int 0), (2, .int 0), (0, .ref (ad 1070)), (1, .int x1)]) hx hb dX5_lay_2_68 rfl hl (by decide) rfl (fun ls hl => ?_)
      have LP69 : ∀ (st69 : Int32 × Int32 × (Nat → Int64)) (ex69 : (Int32 × (Nat → Int64))), loop (xo_X5_lay_2_TB_L69 (σ.1 1072) (σ.1 2008) (σ.1 2013) (σ.1 2027) (σ.1 2032) (σ.2.1 1071) (σ.2.2.1 1170) (σ.2.2.1 2037) (σ.2.2.1 2043) (σ.2.2.2.1 1143) nr nw (fun k => σ.1 (6000 + 16 * k + 2)) (fun k => σ.1 (6000 + 16 * k + 5)) (fun k => σ.1 (6000 + 16 * k + 6)) (fun k => σ.1 (8000 + 16 * k + 0)) (fun k => σ.1 (8000 + 16 * k + 1)) (fun k => σ.1 (8000 + 16 * k + 2)) (fun k => σ.2.2.1 (4000 + 16 * k)) x1) st69 = some ex69 → ∀ (H : Heap) (locs : List Loc), PIC D clsA G dsc ad (sgX5_lay_2_TO σ (st69.2.2)) H → va_S A s.heap H locs → ∀ (ls : Array Slot), lv_has ls 4 [(0, .ref (ad 1070)), (1, .int x1), (2, .int (st69.1)), (3, .int (st69.2.1))] → (∀ (y30 : Int32) (a31 : Nat → Int64), ex69 = (y30, a31) → ∀ (H : Heap) (locs : List Loc), PIC D clsA G dsc ad (sgX5_lay_2_TO σ a31) H → va_S A s.heap H locs → ∀ (ls : Array Slot), lv_has ls 4 [(0, .ref (ad 1070)), (1, .int x1), (2, .int y30)] → W p l e rmX5_lay_2_TO s m args below meth c0 H locs 0 0 Q (F0 m 127 ls [])) → W p l e rmX5_lay_2_TO s m args below meth c0 H locs 0 0 Q (F0 m 69 ls []) := by
        refine loop_P (fun st69 ex69 o69 hf ih69 hx69 => ?_)
        obtain ⟨y15, y16, a17⟩ := st69
        intro H locs (hP : PIC D clsA G dsc ad (sgX5_lay_2_TO σ a17) H) hS ls (hl : lv_has ls 4 [(0, .ref (ad 1070)), (1, .int x1), (2, .int y15), (3, .int y16)]) KE69_0
        dsimp only [xo_X5_lay_2_TB_L69] at hf
        refine lv_iload_n hx hb dX5_lay_2_69 rfl (lv_at hl 3 rfl) ?_
        refine lv_aload_n hx hb dX5_lay_2_70 rfl (lv_at hl 0 rfl) ?_
        refine gx_X5_3_1070 E hX hD hP dX5_lay_2_71 ?_
        refine gx_X5_27_1000 E hX hD hP dX5_lay_2_74 ?_
        refine gx_X5_63_2000 (v := (σ.1 2008)) E hX hD hP sgX5_lay_2_TO_rzI2008 dX5_lay_2_77 ?_
        refine lv_icmp_ge (tgt := 127) hx hb dX5_lay_2_80 (by decide) (fun c18 => ?_) (fun c18 => ?_)
        · have hf := ifT c18 hf
          exact KE69_0 _ _ (hx69 _ (Option.some.inj hf).symm).symm H locs hP hS ls (lv_sub hl [0, 1, 2] rfl)
        · have hf := ifF c18 hf
          refine lv_iload_n hx hb dX5_lay_2_83 rfl (lv_at hl 3 rfl) ?_
          refine lv_aload_n hx hb dX5_lay_2_84 rfl (lv_at hl 0 rfl) ?_
          refine gx_X5_3_1070 E hX hD hP dX5_lay_2_85 ?_
          refine gx_X5_27_1000 E hX hD hP dX5_lay_2_88 ?_
          refine gx_X5_67_2000 (v := (σ.1 2013)) E hX hD hP sgX5_lay_2_TO_rzI2013 dX5_lay_2_91 ?_
          have J121 : ∀ (y19 : Int32) (a20 : Nat → Int64), xo_X5_lay_2_TB_J121 y16 y19 a20 = some o69 → ∀ (H : Heap) (locs : List Loc), PIC D clsA G dsc ad (sgX5_lay_2_TO σ a20) H → va_S A s.heap H locs → ∀ (ls : Array Slot), lv_has ls 4 [(0, .ref (ad 1070)), (1, .int x1), (2, .int y19), (3, .int y16)] → W p l e rmX5_lay_2_TO s m args below meth c0 H locs 0 0 Q (F0 m 121 ls []) := by
            intro y19 a20 hf H locs hP hS ls hl
            unfold xo_X5_lay_2_TB_J121 at hf
            obtain ⟨v21, hv21, hf⟩ := bdP hf
            refine lv_iinc (v := v21) (lv' := [(3, .int v21), (0, .ref (ad 1070)), (1, .int x1), (2, .int y19)]) hx hb dX5_lay_2_121 hl (k := 3) rfl (Option.some.inj hv21) (by decide) rfl (fun ls hl => ?_)
            refine lv_goto (tgt := 69) hx hb dX5_lay_2_124 (by decide) ?_
            exact ih69 _ (Option.some.inj hf).symm H locs hP hS ls (lv_sub hl [1, 2, 3, 0] rfl) KE69_0
          refine lv_icmp_eq (tgt := 121) hx hb dX5_lay_2_94 (by decide) (fun c22 => ?_) (fun c22 => ?_)
          · have hf := ifT c22 hf
            exact J121 y15 a17 hf H locs hP hS ls (lv_sub hl [0, 1, 2, 3] rfl)
          · have hf := ifF c22 hf
            refine lv_aload_n hx hb dX5_lay_2_97 rfl (lv_at hl 0 rfl) ?_
            refine gx_X5_3_1070 E hX hD hP dX5_lay_2_98 ?_
            refine gx_X5_27_1000 E hX hD hP dX5_lay_2_101 ?_
            refine lv_iload_n hx hb dX5_lay_2_104 rfl (lv_at hl 3 rfl) ?_
            refine lv_iload_n hx hb dX5_lay_2_105 rfl (lv_at hl 1 rfl) ?_
            obtain ⟨v23, u24, hf⟩ := bdP hf
            refine cx_X5_74_X3_unseen E hX hD hP hS hA (kxX3_unseen l D G hD sgX5_lay_2_TO_rzI2027 sgX5_lay_2_TO_raI1170 sgX5_lay_2_TO_raI2043 u24) ⟨rfl, rfl⟩ ⟨Nat.le_of_ble_eq_true rfl, Nat.le_of_ble_eq_true rfl⟩ ⟨Nat.zero_le _, Nat.zero_le _⟩ hl.1 (Nat.le_of_ble_eq_true rfl) dX5_lay_2_106 (fun H locs hP hS => ?_)
            refine lv_if_ne (tgt := 121) hx hb dX5_lay_2_109 (by decide) (fun c25 => ?_) (fun c25 => ?_)
            · have hf := ifF c25 hf
              exact J121 y15 a17 hf H locs hP hS ls (lv_sub hl [0, 1, 2, 3] rfl)
            · have hf := ifT c25 hf
              refine lv_iload_n hx hb dX5_lay_2_112 rfl (lv_at hl 2 rfl) ?_
              refine lv_aload_n hx hb dX5_lay_2_113 rfl (lv_at hl 0 rfl) ?_
              refine lv_iload_n hx hb dX5_lay_2_114 rfl (lv_at hl 3 rfl) ?_
              refine lv_iload_n hx hb dX5_lay_2_115 rfl (lv_at hl 1 rfl) ?_
              obtain ⟨⟨v26, a27⟩, u28, hf⟩ := bdP hf
              dsimp only at hf
              refine cx_X5_77_X5_betters_TO E hX hD hP hS hA (kxX5_betters_TO l D G hD sgX5_lay_2_TO_rzI1072 sgX5_lay_2_TO_rzI2008 sgX5_lay_2_TO_rzI2013 sgX5_lay_2_TO_rzI2027 sgX5_lay_2_TO_rzI2032 sgX5_lay_2_TO_rzL1071 sgX5_lay_2_TO_raI1170 sgX5_lay_2_TO_raI2037 sgX5_lay_2_TO_raI2043 sgX5_lay_2_TO_raL1143 sgX5_lay_2_TO_raL1151 rfl rfl sgX5_lay_2_TO_rpR2 sgX5_lay_2_TO_rpR5 sgX5_lay_2_TO_rpR6 sgX5_lay_2_TO_rpW0 sgX5_lay_2_TO_rpW1 sgX5_lay_2_TO_rpW2 sgX5_lay_2_TO_rgG0 u28) ⟨rfl, rfl⟩ ⟨Nat.le_of_ble_eq_true rfl, Nat.le_of_ble_eq_true rfl⟩ ⟨Nat.zero_le _, Nat.zero_le _⟩ hl.1 (Nat.le_of_ble_eq_true rfl) dX5_lay_2_116 (fun H locs hP hS => ?_)
              rw [sgX5_lay_2_TO_aL1151] at hP
              refine lv_ior hx hb dX5_lay_2_119 ?_
              obtain ⟨v29, hv29, hf⟩ := bdP hf
              refine nm_i (Option.some.inj hv29) ?_
              refine lv_istore_n (lv' := [(2, .int v29), (0, .ref (ad 1070)), (1, .int x1), (3, .int y16)]) hx hb dX5_lay_2_120 rfl hl (by decide) rfl (fun ls hl => ?_)
              exact J121 v29 a27 hf H locs hP hS ls (lv_sub hl [1, 2, 0, 3] rfl)
      obtain ⟨ex69, hlp69, hf⟩ := bdP hf
      refine LP69 (0, 0, a13) ex69 hlp69 H locs hP hS ls (lv_sub hl [2, 3, 1, 0] rfl) ?_
      intro y30 a31 hex69 H locs hP hS ls hl
      subst ex69
      dsimp only at hf
      refine lv_goto (tgt := 61) hx hb dX5_lay_2_127 (by decide) ?_
      exact ih61 _ (Option.some.inj hf).symm H locs hP hS ls (lv_sub hl [0, 1, 2] rfl) KE61_0
  obtain ⟨ex61, hlp61, hf⟩ := bdP hf
  refine LP61 (1, a11) ex61 hlp61 H locs hP hS ls (lv_sub hl [1, 2, 0] rfl) ?_
  intro a32 hex61 H locs hP hS ls hl
  subst ex61
  cases hf
  rw [hQ]; exact g_vret hx hb hr hlk hP hS dX5_lay_2_130
theorem kxX5_lay_2_TO (l : Launch) (D : va_G) (G : Nat → ClassId) {dsc : Nat → Option Dsc} {ad : Nat → Nat} {σ : Sto} {nr nw nu : Nat} (hD : XD dsc nr nw nu) {x1 : Int32} {w_aL1151 : Nat → Int64} {z_TO_by : Int32} (e_zI1072 : σ.1 1072 = z_TO_by) {z_L_places : Int32} (e_zI2008 : σ.1 2008 = z_L_places) {z_L_to : Int32} (e_zI2013 : σ.1 2013 = z_L_to) {z_Ld_size : Int32} (e_zI2027 : σ.1 2027 = z_Ld_size) {z_Lw_size : Int32} (e_zI2032 : σ.1 2032 = z_Lw_size) {z_TO_none : Int64} (e_zL1071 : σ.2.1 1071 = z_TO_none) {a_UNIT : Nat → Int32} (e_aI1170 : σ.2.2.1 1170 = a_UNIT) {a_Lw_data : Nat → Int32} (e_aI2037 : σ.2.2.1 2037 = a_Lw_data) {a_L_seen : Nat → Int32} (e_aI2043 : σ.2.2.1 2043 = a_L_seen) {a_O_likely : Nat → Int64} (e_aL1143 : σ.2.2.2.1 1143 = a_O_likely) {a_TO_value : Nat → Int64} (e_aL1151 : σ.2.2.2.1 1151 = a_TO_value) {n_r : Nat} (e_nN0 : nr = n_r) {n_w : Nat} (e_nN1 : nw = n_w) {p_road_hours : Nat → Int32} (e_pR2 : (fun k => σ.1 (6000 + 16 * k + 2)) = p_road_hours) {p_road_wait : Nat → Int32} (e_pR5 : (fun k => σ.1 (6000 + 16 * k + 5)) = p_road_wait) {p_road_number : Nat → Int32} (e_pR6 : (fun k => σ.1 (6000 + 16 * k + 6)) = p_road_number) {p_word_place : Nat → Int32} (e_pW0 : (fun k => σ.1 (8000 + 16 * k + 0)) = p_word_place) {p_word_road : Nat → Int32} (e_pW1 : (fun k => σ.1 (8000 + 16 * k + 1)) = p_word_road) {p_word_hours : Nat → Int32} (e_pW2 : (fun k => σ.1 (8000 + 16 * k + 2)) = p_word_hours) {g_grid : Nat → Nat → Int32} (e_gG0 : (fun k => σ.2.2.1 (4000 + 16 * k)) = g_grid) (hf : xo_X5_lay_2_TB z_TO_by z_L_places z_L_to z_Ld_size z_Lw_size z_TO_none a_UNIT a_Lw_data a_L_seen a_O_likely a_TO_value n_r n_w p_road_hours p_road_wait p_road_number p_word_place p_word_road p_word_hours g_grid x1 = some w_aL1151) : CtG l D G dsc ad yX5_lay_2 (ws_ yX5_lay_2 cX5_lay_2 4 (Option.none : Option Jvm.ClassFile.FieldType)) rmX5_lay_2_TO [.ref (ad 1070), .int x1] σ none (aL σ 1151 w_aL1151) := by
  subst e_zI1072
  subst e_zI2008
  subst e_zI2013
  subst e_zI2027
  subst e_zI2032
  subst e_zL1071
  subst e_aI1170
  subst e_aI2037
  subst e_aI2043
  subst e_aL1143
  subst e_aL1151
  subst e_nN0
  subst e_nN1
  subst e_pR2
  subst e_pR5
  subst e_pR6
  subst e_pW0
  subst e_pW1
  subst e_pW2
  subst e_gG0
  exact p_ctG (by decide +kernel) (Nat.le_of_ble_eq_true rfl) (fun p e s m below meth c0 ls A E hP hX hA hS hl => wkX5_lay_2_TO E hX hD hA hf rfl hP hS hl)
theorem ux_X5_23_1070 {σ1 : Sto} (E : EN p s m args meth c0 RX5 cc nL ret) (hX : KX D G ad A s s.heap) (hD : XD dsc nr nw nu) (hP : PIC D clsA G dsc ad σ H) (hS : va_S A s.heap H locs) (hA : A (ad 1070)) (hσ : zI σ 1072 0 = σ1) (hdg : decode cc pc = .ok (.putfield 23, 3)) (kk : ∀ (H1 : Heap) (locs1 : List Loc), PIC D clsA G dsc ad σ1 H1 → va_S A s.heap H1 locs1 → W p l e R s m args below meth c0 H1 locs1 cells slots Q (F0 m (pc + 3) ls rest)) : W p l e R s m args below meth c0 H locs cells slots Q (F0 m pc ls (.ref (ad 1055) :: .ref (ad 1070) :: rest)) :=
  p_putr2 E.1.1 E.1.2.1 E.1.2.2.2.2 in_X6 tyX6 tyX6_ok E.1.2.2.2.1 hX.1 hP hS hA (hD.1 _ _ dX_1070) rfl 2 (by decide) (by decide +kernel) (E.1.2.2.2.2 _ q363) (fun _ h => h) rfl rfl rfl rfl rfl hσ hdg kk
theorem cx_X5_51_X5_notKnown_TO {rm : Room} {σ1 : Sto} {x1 : Int32} {r : Int32} (E : EN p s m args meth c0 RX5 cc nL ret) (hX : KX D G ad A s s.heap) (hD : XD dsc nr nw nu) (hP : PIC D clsA G dsc ad σ H) (hS : va_S A s.heap H locs) (hA : ∀ q, PA dsc ad s.heap.size q → A q) (hM : CtG l D G dsc ad yX5_notKnown (ws_ yX5_notKnown cX5_notKnown 4 (Option.some Jvm.ClassFile.FieldType.int)) rm [.ref (ad 1070), .int x1] σ (some (.int r)) σ1) (hz : rm.cells = 0 ∧ rm.slots = 0) (hR : rm.frames + 1 ≤ R.frames ∧ 8 + (4 + 11) + rm.locals ≤ R.locals) (hcs : cells ≤ R.cells ∧ slots ≤ R.slots) (hsz : ls.size = nL) (hW : (rest.map fun v => v.category).sum ≤ 8) (hdg : decode cc pc = .ok (.invokevirtual 51, 3)) (kk : ∀ (H1 : Heap) (locs1 : List Loc), PIC D clsA G dsc ad σ1 H1 → va_S A s.heap H1 locs1 → W p l e R s m args below meth c0 H1 locs1 cells slots Q (F0 m (pc + 3) ls (.int r :: rest))) : W p l e R s m args below meth c0 H locs cells slots Q (F0 m pc ls (.int x1 :: .ref (ad 1070) :: rest)) :=
  p_gU (As := [.int x1]) (rest := rest) E.1 hX hP hS hA hM (cw_any (owner := "ShutPasses$Table") (x := ⟨"ShutPasses$Table", "notKnown", "(I)I"⟩) (y := yX5_notKnown) (C := "ShutPasses$InMean") (index := 51) (own := RX5) 1 E.1.2.2.2.2 (lw_meth q1059) rfl hz.1 hz.2 (E.1.2.2.2.2 _ q1053) (E.1.2.2.2.2 _ q1055) (va_Decl.of (E.1.2.2.2.2 _ q1054) (E.1.2.2.2.2 _ q1059)) (E.1.2.2.2.2 _ q1057) (E.1.2.2.2.2 _ q1054) (E.1.2.2.2.2 _ q131) (by decide +kernel) hR) (hD.1 _ _ dX_1070) rfl rfl rfl hsz rfl hW hdg hcs kk
theorem cx_X5_55_X5_lay_2_TO {rm : Room} {σ1 : Sto} {x1 : Int32} (E : EN p s m args meth c0 RX5 cc nL ret) (hX : KX D G ad A s s.heap) (hD : XD dsc nr nw nu) (hP : PIC D clsA G dsc ad σ H) (hS : va_S A s.heap H locs) (hA : ∀ q, PA dsc ad s.heap.size q → A q) (hM : CtG l D G dsc ad yX5_lay_2 (ws_ yX5_lay_2 cX5_lay_2 4 (Option.none : Option Jvm.ClassFile.FieldType)) rm [.ref (ad 1070), .int x1] σ none σ1) (hz : rm.cells = 0 ∧ rm.slots = 0) (hR : rm.frames + 1 ≤ R.frames ∧ 8 + (4 + 11) + rm.locals ≤ R.locals) (hcs : cells ≤ R.cells ∧ slots ≤ R.slots) (hsz : ls.size = nL) (hW : (rest.map fun v => v.category).sum ≤ 8) (hdg : decode cc pc = .ok (.invokevirtual 55, 3)) (kk : ∀ (H1 : Heap) (locs1 : List Loc), PIC D clsA G dsc ad σ1 H1 → va_S A s.heap H1 locs1 → W p l e R s m args below meth c0 H1 locs1 cells slots Q (F0 m (pc + 3) ls (rest))) : W p l e R s m args below meth c0 H locs cells slots Q (F0 m pc ls (.int x1 :: .ref (ad 1070) :: rest)) :=
  p_gU (As := [.int x1]) (rest := rest) E.1 hX hP hS hA hM (cw_any (owner := "ShutPasses$Table") (x := ⟨"ShutPasses$Table", "lay", "(I)V"⟩) (y := yX5_lay_2) (C := "ShutPasses$InMean") (index := 55) (own := RX5) 1 E.1.2.2.2.2 (lw_meth q1064) rfl hz.1 hz.2 (E.1.2.2.2.2 _ q1061) (E.1.2.2.2.2 _ q2278) (va_Decl.of (E.1.2.2.2.2 _ q1063) (E.1.2.2.2.2 _ q1064)) (va_Nw.use rfl (hX.2.1.2 ("ShutPasses$InMean", yX5_lay_2) (by decide +kernel))) (E.1.2.2.2.2 _ q1063) (E.1.2.2.2.2 _ q131) (by decide +kernel) hR) (hD.1 _ _ dX_1070) rfl rfl rfl hsz rfl hW hdg hcs kk
/-! X5_lay_TO_O (LShutPasses$Weights;)V -/
def sgX5_lay_TO_O (σ : Sto) (w0 : Int32) (w1 : Nat → Int64) : Sto := aL (zI σ 1072 w0) 1151 w1
theorem sgX5_lay_TO_O_self (σ : Sto) : sgX5_lay_TO_O σ (σ.1 1072) (σ.2.2.2.1 1151) = σ := by
  unfold sgX5_lay_TO_O
  simp only [zI_self, zL_self, aI_self, aL_self]
theorem sgX5_lay_TO_O_zI1072 {σ : Sto} {w0 : Int32} {w1 : Nat → Int64} {g : Int32} : zI (sgX5_lay_TO_O σ w0 w1) 1072 g = sgX5_lay_TO_O σ g w1 := (cm_zI_aL _ _ _ _ _).trans (congrArg (fun z => aL z 1151 w1) (zI_zI _ 1072 _ _))
theorem sgX5_lay_TO_O_aL1151 {σ : Sto} {w0 : Int32} {w1 : Nat → Int64} {g : Nat → Int64} : aL (sgX5_lay_TO_O σ w0 w1) 1151 g = sgX5_lay_TO_O σ w0 g := aL_aL _ 1151 _ _
theorem sgX5_lay_TO_O_rzI1072 {σ : Sto} {w0 : Int32} {w1 : Nat → Int64} : (sgX5_lay_TO_O σ w0 w1).1 1072 = w0 := rfl
theorem sgX5_lay_TO_O_rzI2008 {σ : Sto} {w0 : Int32} {w1 : Nat → Int64} : (sgX5_lay_TO_O σ w0 w1).1 2008 = σ.1 2008 := rfl
theorem sgX5_lay_TO_O_rzI2013 {σ : Sto} {w0 : Int32} {w1 : Nat → Int64} : (sgX5_lay_TO_O σ w0 w1).1 2013 = σ.1 2013 := rfl
theorem sgX5_lay_TO_O_rzI2027 {σ : Sto} {w0 : Int32} {w1 : Nat → Int64} : (sgX5_lay_TO_O σ w0 w1).1 2027 = σ.1 2027 := rfl
theorem sgX5_lay_TO_O_rzI2032 {σ : Sto} {w0 : Int32} {w1 : Nat → Int64} : (sgX5_lay_TO_O σ w0 w1).1 2032 = σ.1 2032 := rfl
theorem sgX5_lay_TO_O_rzL1071 {σ : Sto} {w0 : Int32} {w1 : Nat → Int64} : (sgX5_lay_TO_O σ w0 w1).2.1 1071 = σ.2.1 1071 := rfl
theorem sgX5_lay_TO_O_raI1170 {σ : Sto} {w0 : Int32} {w1 : Nat → Int64} : (sgX5_lay_TO_O σ w0 w1).2.2.1 1170 = σ.2.2.1 1170 := rfl
theorem sgX5_lay_TO_O_raI2037 {σ : Sto} {w0 : Int32} {w1 : Nat → Int64} : (sgX5_lay_TO_O σ w0 w1).2.2.1 2037 = σ.2.2.1 2037 := rfl
theorem sgX5_lay_TO_O_raI2043 {σ : Sto} {w0 : Int32} {w1 : Nat → Int64} : (sgX5_lay_TO_O σ w0 w1).2.2.1 2043 = σ.2.2.1 2043 := rfl
theorem sgX5_lay_TO_O_raL1143 {σ : Sto} {w0 : Int32} {w1 : Nat → Int64} : (sgX5_lay_TO_O σ w0 w1).2.2.2.1 1143 = σ.2.2.2.1 1143 := rfl
theorem sgX5_lay_TO_O_raL1151 {σ : Sto} {w0 : Int32} {w1 : Nat → Int64} : (sgX5_lay_TO_O σ w0 w1).2.2.2.1 1151 = w1 := rfl
theorem sgX5_lay_TO_O_rpR2 {σ : Sto} {w0 : Int32} {w1 : Nat → Int64} : (fun k => (sgX5_lay_TO_O σ w0 w1).1 (6000 + 16 * k + 2)) = (fun k => σ.1 (6000 + 16 * k + 2)) := by
  funext k
  unfold sgX5_lay_TO_O
  dsimp only [zI, zL, aI, aL]
  repeat rw [if_neg (by omega)]
theorem sgX5_lay_TO_O_rpR5 {σ : Sto} {w0 : Int32} {w1 : Nat → Int64} : (fun k => (sgX5_lay_TO_O σ w0 w1).1 (6000 + 16 * k + 5)) = (fun k => σ.1 (6000 + 16 * k + 5)) := by
  funext k
  unfold sgX5_lay_TO_O
  dsimp only [zI, zL, aI, aL]
  repeat rw [if_neg (by omega)]
theorem sgX5_lay_TO_O_rpR6 {σ : Sto} {w0 : Int32} {w1 : Nat → Int64} : (fun k => (sgX5_lay_TO_O σ w0 w1).1 (6000 + 16 * k + 6)) = (fun k => σ.1 (6000 + 16 * k + 6)) := by
  funext k
  unfold sgX5_lay_TO_O
  dsimp only [zI, zL, aI, aL]
  repeat rw [if_neg (by omega)]
theorem sgX5_lay_TO_O_rpW0 {σ : Sto} {w0 : Int32} {w1 : Nat → Int64} : (fun k => (sgX5_lay_TO_O σ w0 w1).1 (8000 + 16 * k + 0)) = (fun k => σ.1 (8000 + 16 * k + 0)) := by
  funext k
  unfold sgX5_lay_TO_O
  dsimp only [zI, zL, aI, aL]
  repeat rw [if_neg (by omega)]
theorem sgX5_lay_TO_O_rpW1 {σ : Sto} {w0 : Int32} {w1 : Nat → Int64} : (fun k => (sgX5_lay_TO_O σ w0 w1).1 (8000 + 16 * k + 1)) = (fun k => σ.1 (8000 + 16 * k + 1)) := by
  funext k
  unfold sgX5_lay_TO_O
  dsimp only [zI, zL, aI, aL]
  repeat rw [if_neg (by omega)]
theorem sgX5_lay_TO_O_rpW2 {σ : Sto} {w0 : Int32} {w1 : Nat → Int64} : (fun k => (sgX5_lay_TO_O σ w0 w1).1 (8000 + 16 * k + 2)) = (fun k => σ.1 (8000 + 16 * k + 2)) := by
  funext k
  unfold sgX5_lay_TO_O
  dsimp only [zI, zL, aI, aL]
  repeat rw [if_neg (by omega)]
theorem sgX5_lay_TO_O_rgG0 {σ : Sto} {w0 : Int32} {w1 : Nat → Int64} : (fun k => (sgX5_lay_TO_O σ w0 w1).2.2.1 (4000 + 16 * k)) = (fun k => σ.2.2.1 (4000 + 16 * k)) := by
  funext k
  unfold sgX5_lay_TO_O
  dsimp only [zI, zL, aI, aL]
  repeat rw [if_neg (by omega)]
abbrev rmX5_lay_TO_O : Room := { frames := 47, cells := 0, slots := 0, locals := 1291 }
set_option maxHeartbeats 4000000 in
theorem wkX5_lay_TO_O {w_zI1072 : Int32} {w_aL1151 : Nat → Int64} (E : EN p s m args meth c0 RX5 cX5_lay 4 (Option.none : Option Jvm.ClassFile.FieldType)) (hX : KX D G ad A s s.heap) (hD : XD dsc nr nw nu) (hA : ∀ q, PA dsc ad s.heap.size q → A q) (hf : xo_X5_lay_TB_W (σ.1 1072) (σ.1 2008) (σ.1 2013) (σ.1 2027) (σ.1 2032) (σ.2.1 1071) (σ.2.2.1 1170) (σ.2.2.1 2037) (σ.2.2.1 2043) (σ.2.2.2.1 1143) (σ.2.2.2.1 1151) nr nw (fun k => σ.1 (6000 + 16 * k + 2)) (fun k => σ.1 (6000 + 16 * k + 5)) (fun k => σ.1 (6000 + 16 * k + 6)) (fun k => σ.1 (8000 + 16 * k + 0)) (fun k => σ.1 (8000 + 16 * k + 1)) (fun k => σ.1 (8000 + 16 * k + 2)) (fun k => σ.2.2.1 (4000 + 16 * k)) = some (w_zI1072, w_aL1151)) (hQ : Q = MQ below (va_G1 none (fun t => PIC D clsA G dsc ad (sgX5_lay_TO_O σ w_zI1072 w_aL1151) t.heap) A) args s 0 0 A) (hP : PIC D clsA G dsc ad σ H) (hS : va_S A s.heap H locs) (hl : lv_has ls 4 [(0, .ref (ad 1070)), (1, .ref (ad 1055))]) : W p l e rmX5_lay_TO_O s m args below meth c0 H locs 0 0 Q (F0 m 0 ls []) := by
  obtain ⟨⟨hx, hb, hml, hown, hts⟩, hr, hlk⟩ := id E
  have hP := hP.to (sgX5_lay_TO_O_self σ).symm
  unfold xo_X5_lay_TB_W at hf
  refine lv_aload_n hx hb dX5_lay_0 rfl (lv_at hl 0 rfl) ?_
  refine lv_aload_n hx hb dX5_lay_1 rfl (lv_at hl 1 rfl) ?_
  refine ux_X5_23_1070 E hX hD hP hS (hA _ (PA_c (hD.1 _ _ dX_1070))) sgX5_lay_TO_O_zI1072 dX5_lay_2 (fun H locs hP hS => ?_)
  refine lv_iconst hx hb dX5_lay_5 ic_0 ?_
  refine lv_istore_n (lv' := [(2, .int 0), (0, .ref (ad 1070)), (1, .ref (ad 1055))]) hx hb dX5_lay_6 rfl hl (by decide) rfl (fun ls hl => ?_)
  have LP7 : ∀ (st7 : Int32 × (Nat → Int64)) (ex7 : ((Nat → Int64))), loop (xo_X5_lay_TB_W_L7 (σ.1 2008) (σ.1 2013) (σ.1 2027) (σ.1 2032) (σ.2.1 1071) (σ.2.2.1 1170) (σ.2.2.1 2037) (σ.2.2.1 2043) (σ.2.2.2.1 1143) nr nw (fun k => σ.1 (6000 + 16 * k + 2)) (fun k => σ.1 (6000 + 16 * k + 5)) (fun k => σ.1 (6000 + 16 * k + 6)) (fun k => σ.1 (8000 + 16 * k + 0)) (fun k => σ.1 (8000 + 16 * k + 1)) (fun k => σ.1 (8000 + 16 * k + 2)) (fun k => σ.2.2.1 (4000 + 16 * k))) st7 = some ex7 → ∀ (H : Heap) (locs : List Loc), PIC D clsA G dsc ad (sgX5_lay_TO_O σ 0 (st7.2)) H → va_S A s.heap H locs → ∀ (ls : Array Slot), lv_has ls 4 [(0, .ref (ad 1070)), (2, .int (st7.1))] → (∀ (a23 : Nat → Int64), ex7 = a23 → ∀ (H : Heap) (locs : List Loc), PIC D clsA G dsc ad (sgX5_lay_TO_O σ 0 a23) H → va_S A s.heap H locs → ∀ (ls : Array Slot), lv_has ls 4 [] → W p l e rmX5_lay_TO_O s m args below meth c0 H locs 0 0 Q (F0 m 80 ls [])) → W p l e rmX5_lay_TO_O s m args below meth c0 H locs 0 0 Q (F0 m 7 ls []) := by
    refine loop_P (fun st7 ex7 o7 hf ih7 hx7 => ?_)
    obtain ⟨y1, a2⟩ := st7
    intro H locs (hP : PIC D clsA G dsc ad (sgX5_lay_TO_O σ 0 a2) H) hS ls (hl : lv_has ls 4 [(0, .ref (ad 1070)), (2, .int y1)]) KE7_0
    dsimp only [xo_X5_lay_TB_W_L7] at hf
    refine lv_iload_n hx hb dX5_lay_7 rfl (lv_at hl 1 rfl) ?_
    refine lv_aload_n hx hb dX5_lay_8 rfl (lv_at hl 0 rfl) ?_
    refine gx_X5_3_1070 E hX hD hP dX5_lay_9 ?_
    refine gx_X5_27_1000 E hX hD hP dX5_lay_12 ?_
    refine gx_X5_31_2000 E hX hD hP dX5_lay_15 ?_
    obtain ⟨v3, u4, hf⟩ := bdP hf
    refine cx_X5_37_J2_size_Ld E hX hD hP hS hA (kxJ2_size_Ld l D G hD sgX5_lay_TO_O_rzI2027 u4) ⟨rfl, rfl⟩ ⟨Nat.le_of_ble_eq_true rfl, Nat.le_of_ble_eq_true rfl⟩ ⟨Nat.zero_le _, Nat.zero_le _⟩ hl.1 (Nat.le_of_ble_eq_true rfl) dX5_lay_18 (fun H locs hP hS => ?_)
    refine lv_icmp_gt (tgt := 80) hx hb dX5_lay_21 (by decide) (fun c5 => ?_) (fun c5 => ?_)
    · have hf := ifT c5 hf
      exact KE7_0 _ (hx7 _ (Option.some.inj hf).symm).symm H locs hP hS ls (lv_sub hl [] rfl)
    · have hf := ifF c5 hf
      refine lv_iconst hx hb dX5_lay_24 ic_0 ?_
      refine lv_istore_n (lv' := [(3, .int 0), (0, .ref (ad 1070)), (2, .int y1)]) hx hb dX5_lay_25 rfl hl (by decide) rfl (fun ls hl => ?_)
      have LP26 : ∀ (st26 : Int32 × (Nat → Int64)) (ex26 : ((Nat → Int64))), loop (xo_X5_lay_TB_W_L26 (σ.1 2008) (σ.1 2013) (σ.1 2027) (σ.1 2032) (σ.2.1 1071) (σ.2.2.1 1170) (σ.2.2.1 2037) (σ.2.2.1 2043) (σ.2.2.2.1 1143) nr nw (fun k => σ.1 (6000 + 16 * k + 2)) (fun k => σ.1 (6000 + 16 * k + 5)) (fun k => σ.1 (6000 + 16 * k + 6)) (fun k => σ.1 (8000 + 16 * k + 0)) (fun k => σ.1 (8000 + 16 * k + 1)) (fun k => σ.1 (8000 + 16 * k + 2)) (fun k => σ.2.2.1 (4000 + 16 * k)) y1) st26 = some ex26 → ∀ (H : Heap) (locs : List Loc), PIC D clsA G dsc ad (sgX5_lay_TO_O σ 0 (st26.2)) H → va_S A s.heap H locs → ∀ (ls : Array Slot), lv_has ls 4 [(0, .ref (ad 1070)), (2, .int y1), (3, .int (st26.1))] → (∀ (a21 : Nat → Int64), ex26 = a21 → ∀ (H : Heap) (locs : List Loc), PIC D clsA G dsc ad (sgX5_lay_TO_O σ 0 a21) H → va_S A s.heap H locs → ∀ (ls : Array Slot), lv_has ls 4 [(0, .ref (ad 1070)), (2, .int y1)] → W p l e rmX5_lay_TO_O s m args below meth c0 H locs 0 0 Q (F0 m 74 ls [])) → W p l e rmX5_lay_TO_O s m args below meth c0 H locs 0 0 Q (F0 m 26 ls []) := by
        refine loop_P (fun st26 ex26 o26 hf ih26 hx26 => ?_)
        obtain ⟨y6, a7⟩ := st26
        intro H locs (hP : PIC D clsA G dsc ad (sgX5_lay_TO_O σ 0 a7) H) hS ls (hl : lv_has ls 4 [(0, .ref (ad 1070)), (2, .int y1), (3, .int y6)]) KE26_0
        dsimp only [xo_X5_lay_TB_W_L26] at hf
        refine lv_iload_n hx hb dX5_lay_26 rfl (lv_at hl 2 rfl) ?_
        refine lv_aload_n hx hb dX5_lay_27 rfl (lv_at hl 0 rfl) ?_
        refine gx_X5_3_1070 E hX hD hP dX5_lay_28 ?_
        refine gx_X5_27_1000 E hX hD hP dX5_lay_31 ?_
        obtain ⟨v8, u9, hf⟩ := bdP hf
        refine cx_X5_43_X3_knowns E hX hD hP hS hA (kxX3_knowns l D G hD sgX5_lay_TO_O_rzI2027 sgX5_lay_TO_O_raI1170 u9) ⟨rfl, rfl⟩ ⟨Nat.le_of_ble_eq_true rfl, Nat.le_of_ble_eq_true rfl⟩ ⟨Nat.zero_le _, Nat.zero_le _⟩ hl.1 (Nat.le_of_ble_eq_true rfl) dX5_lay_34 (fun H locs hP hS => ?_)
        refine lv_icmp_ge (tgt := 74) hx hb dX5_lay_37 (by decide) (fun c10 => ?_) (fun c10 => ?_)
        · have hf := ifT c10 hf
          exact KE26_0 _ (hx26 _ (Option.some.inj hf).symm).symm H locs hP hS ls (lv_sub hl [0, 1] rfl)
        · have hf := ifF c10 hf
          refine lv_aload_n hx hb dX5_lay_40 rfl (lv_at hl 0 rfl) ?_
          refine gx_X5_23_1070 (v := 0) E hX hD hP sgX5_lay_TO_O_rzI1072 dX5_lay_41 ?_
          obtain ⟨v11, hv11, hf⟩ := bdP hf
          refine p_nn0 (ckz_some hv11) ?_
          refine gx_X5_46_1055 E hX hD hP dX5_lay_44 ?_
          refine lv_iload_n hx hb dX5_lay_47 rfl (lv_at hl 2 rfl) ?_
          obtain ⟨v12, hv12, hf⟩ := bdP hf
          refine p_lald hx hb hX.1 hP (hD.1 _ _ dX_1143) sgX5_lay_TO_O_raL1143 hv12 dX5_lay_48 ?_
          refine lv_lconst hx hb dX5_lay_49 lc_0 ?_
          refine W.lcmp hx hb dX5_lay_50 ?_
          have J68 : ∀ (a13 : Nat → Int64), xo_X5_lay_TB_W_J68 y6 a13 = some o26 → ∀ (H : Heap) (locs : List Loc), PIC D clsA G dsc ad (sgX5_lay_TO_O σ 0 a13) H → va_S A s.heap H locs → ∀ (ls : Array Slot), lv_has ls 4 [(0, .ref (ad 1070)), (2, .int y1), (3, .int y6)] → W p l e rmX5_lay_TO_O s m args below meth c0 H locs 0 0 Q (F0 m 68 ls []) := by
            intro a13 hf H locs hP hS ls hl
            unfold xo_X5_lay_TB_W_J68 at hf
            obtain ⟨v14, hv14, hf⟩ := bdP hf
            refine lv_iinc (v := v14) (lv' := [(3, .int v14), (0, .ref (ad 1070)), (2, .int y1)]) hx hb dX5_lay_68 hl (k := 2) rfl (Option.some.inj hv14) (by decide) rfl (fun ls hl => ?_)
            refine lv_goto (tgt := 26) hx hb dX5_lay_71 (by decide) ?_
            exact ih26 _ (Option.some.inj hf).symm H locs hP hS ls (lv_sub hl [1, 2, 0] rfl) KE26_0
          refine lv_if_le (tgt := 68) hx hb dX5_lay_51 (by decide) (fun c15 => ?_) (fun c15 => ?_)
          · have hf := ifT ((lgc_le _ _).mp c15) hf
            exact J68 a7 hf H locs hP hS ls (lv_sub hl [0, 1, 2] rfl)
          · have hf := ifF (mt (lgc_le _ _).mpr c15) hf
            refine lv_aload_n hx hb dX5_lay_54 rfl (lv_at hl 0 rfl) ?_
            refine lv_iload_n hx hb dX5_lay_55 rfl (lv_at hl 2 rfl) ?_
            obtain ⟨v16, u17, hf⟩ := bdP hf
            refine cx_X5_51_X5_notKnown_TO E hX hD hP hS hA (kxX5_notKnown_TO l D G hD sgX5_lay_TO_O_rzI2027 sgX5_lay_TO_O_raI1170 u17) ⟨rfl, rfl⟩ ⟨Nat.le_of_ble_eq_true rfl, Nat.le_of_ble_eq_true rfl⟩ ⟨Nat.zero_le _, Nat.zero_le _⟩ hl.1 (Nat.le_of_ble_eq_true rfl) dX5_lay_56 (fun H locs hP hS => ?_)
            refine lv_iload_n hx hb dX5_lay_59 rfl (lv_at hl 1 rfl) ?_
            refine lv_icmp_ne (tgt := 68) hx hb dX5_lay_60 (by decide) (fun c18 => ?_) (fun c18 => ?_)
            · have hf := ifF c18 hf
              exact J68 a7 hf H locs hP hS ls (lv_sub hl [0, 1, 2] rfl)
            · have hf := ifT c18 hf
              refine lv_aload_n hx hb dX5_lay_63 rfl (lv_at hl 0 rfl) ?_
              refine lv_iload_n hx hb dX5_lay_64 rfl (lv_at hl 2 rfl) ?_
              obtain ⟨a19, u20, hf⟩ := bdP hf
              refine cx_X5_55_X5_lay_2_TO E hX hD hP hS hA (kxX5_lay_2_TO l D G hD sgX5_lay_TO_O_rzI1072 sgX5_lay_TO_O_rzI2008 sgX5_lay_TO_O_rzI2013 sgX5_lay_TO_O_rzI2027 sgX5_lay_TO_O_rzI2032 sgX5_lay_TO_O_rzL1071 sgX5_lay_TO_O_raI1170 sgX5_lay_TO_O_raI2037 sgX5_lay_TO_O_raI2043 sgX5_lay_TO_O_raL1143 sgX5_lay_TO_O_raL1151 rfl rfl sgX5_lay_TO_O_rpR2 sgX5_lay_TO_O_rpR5 sgX5_lay_TO_O_rpR6 sgX5_lay_TO_O_rpW0 sgX5_lay_TO_O_rpW1 sgX5_lay_TO_O_rpW2 sgX5_lay_TO_O_rgG0 u20) ⟨rfl, rfl⟩ ⟨Nat.le_of_ble_eq_true rfl, Nat.le_of_ble_eq_true rfl⟩ ⟨Nat.zero_le _, Nat.zero_le _⟩ hl.1 (Nat.le_of_ble_eq_true rfl) dX5_lay_65 (fun H locs hP hS => ?_)
              rw [sgX5_lay_TO_O_aL1151] at hP
              exact J68 a19 hf H locs hP hS ls (lv_sub hl [0, 1, 2] rfl)
      obtain ⟨ex26, hlp26, hf⟩ := bdP hf
      refine LP26 (0, a2) ex26 hlp26 H locs hP hS ls (lv_sub hl [1, 2, 0] rfl) ?_
      intro a21 hex26 H locs hP hS ls hl
      subst ex26
      obtain ⟨v22, hv22, hf⟩ := bdP hf
      refine lv_iinc (v := v22) (lv' := [(2, .int v22), (0, .ref (ad 1070))]) hx hb dX5_lay_74 hl (k := 1) rfl (Option.some.inj hv22) (by decide) rfl (fun ls hl => ?_)
      refine lv_goto (tgt := 7) hx hb dX5_lay_77 (by decide) ?_
      exact ih7 _ (Option.some.inj hf).symm H locs hP hS ls (lv_sub hl [1, 0] rfl) KE7_0
  obtain ⟨ex7, hlp7, hf⟩ := bdP hf
  refine LP7 (0, (σ.2.2.2.1 1151)) ex7 hlp7 H locs hP hS ls (lv_sub hl [1, 0] rfl) ?_
  intro a23 hex7 H locs hP hS ls hl
  subst ex7
  cases hf
  rw [hQ]; exact g_vret hx hb hr hlk hP hS dX5_lay_80
theorem kxX5_lay_TO_O (l : Launch) (D : va_G) (G : Nat → ClassId) {dsc : Nat → Option Dsc} {ad : Nat → Nat} {σ : Sto} {nr nw nu : Nat} (hD : XD dsc nr nw nu) {w_zI1072 : Int32} {w_aL1151 : Nat → Int64} {z_TO_by : Int32} (e_zI1072 : σ.1 1072 = z_TO_by) {z_L_places : Int32} (e_zI2008 : σ.1 2008 = z_L_places) {z_L_to : Int32} (e_zI2013 : σ.1 2013 = z_L_to) {z_Ld_size : Int32} (e_zI2027 : σ.1 2027 = z_Ld_size) {z_Lw_size : Int32} (e_zI2032 : σ.1 2032 = z_Lw_size) {z_TO_none : Int64} (e_zL1071 : σ.2.1 1071 = z_TO_none) {a_UNIT : Nat → Int32} (e_aI1170 : σ.2.2.1 1170 = a_UNIT) {a_Lw_data : Nat → Int32} (e_aI2037 : σ.2.2.1 2037 = a_Lw_data) {a_L_seen : Nat → Int32} (e_aI2043 : σ.2.2.1 2043 = a_L_seen) {a_O_likely : Nat → Int64} (e_aL1143 : σ.2.2.2.1 1143 = a_O_likely) {a_TO_value : Nat → Int64} (e_aL1151 : σ.2.2.2.1 1151 = a_TO_value) {n_r : Nat} (e_nN0 : nr = n_r) {n_w : Nat} (e_nN1 : nw = n_w) {p_road_hours : Nat → Int32} (e_pR2 : (fun k => σ.1 (6000 + 16 * k + 2)) = p_road_hours) {p_road_wait : Nat → Int32} (e_pR5 : (fun k => σ.1 (6000 + 16 * k + 5)) = p_road_wait) {p_road_number : Nat → Int32} (e_pR6 : (fun k => σ.1 (6000 + 16 * k + 6)) = p_road_number) {p_word_place : Nat → Int32} (e_pW0 : (fun k => σ.1 (8000 + 16 * k + 0)) = p_word_place) {p_word_road : Nat → Int32} (e_pW1 : (fun k => σ.1 (8000 + 16 * k + 1)) = p_word_road) {p_word_hours : Nat → Int32} (e_pW2 : (fun k => σ.1 (8000 + 16 * k + 2)) = p_word_hours) {g_grid : Nat → Nat → Int32} (e_gG0 : (fun k => σ.2.2.1 (4000 + 16 * k)) = g_grid) (hf : xo_X5_lay_TB_W z_TO_by z_L_places z_L_to z_Ld_size z_Lw_size z_TO_none a_UNIT a_Lw_data a_L_seen a_O_likely a_TO_value n_r n_w p_road_hours p_road_wait p_road_number p_word_place p_word_road p_word_hours g_grid = some (w_zI1072, w_aL1151)) : CtG l D G dsc ad yX5_lay (ws_ yX5_lay cX5_lay 4 (Option.none : Option Jvm.ClassFile.FieldType)) rmX5_lay_TO_O [.ref (ad 1070), .ref (ad 1055)] σ none (aL (zI σ 1072 w_zI1072) 1151 w_aL1151) := by
  subst e_zI1072
  subst e_zI2008
  subst e_zI2013
  subst e_zI2027
  subst e_zI2032
  subst e_zL1071
  subst e_aI1170
  subst e_aI2037
  subst e_aI2043
  subst e_aL1143
  subst e_aL1151
  subst e_nN0
  subst e_nN1
  subst e_pR2
  subst e_pR5
  subst e_pR6
  subst e_pW0
  subst e_pW1
  subst e_pW2
  subst e_gG0
  exact p_ctG (by decide +kernel) (Nat.le_of_ble_eq_true rfl) (fun p e s m below meth c0 ls A E hP hX hA hS hl => wkX5_lay_TO_O E hX hD hA hf rfl hP hS hl)
/-! X1_isFirst (I)Z -/
abbrev rmX1_isFirst : Room := { frames := 1, cells := 0, slots := 0, locals := 21 }
set_option maxHeartbeats 4000000 in
theorem wkX1_isFirst {x1 : Int32} {r_ : Int32} (E : EN p s m args meth c0 RX1 cX1_isFirst 3 (Option.some Jvm.ClassFile.FieldType.boolean)) (hX : KX D G ad A s s.heap) (hD : XD dsc nr nw nu) (hA : ∀ q, PA dsc ad s.heap.size q → A q) (hf : xo_X1_isFirst (σ.1 2012) (σ.1 2027) (σ.2.2.1 1170) (σ.2.2.1 2043) x1 = some r_) (hQ : Q = MQ below (va_G1 (some (.int r_)) (fun t => PIC D clsA G dsc ad σ t.heap) A) args s 0 0 A) (hP : PIC D clsA G dsc ad σ H) (hS : va_S A s.heap H locs) (hl : lv_has ls 3 [(0, .ref (ad 1000)), (1, .int x1)]) : W p l e rmX1_isFirst s m args below meth c0 H locs 0 0 Q (F0 m 0 ls []) := by
  obtain ⟨⟨hx, hb, hml, hown, hts⟩, hr, hlk⟩ := id E
  unfold xo_X1_isFirst at hf
  refine lv_iconst hx hb dX1_isFirst_0 ic_0 ?_
  refine lv_istore_n (lv' := [(2, .int 0), (0, .ref (ad 1000)), (1, .int x1)]) hx hb dX1_isFirst_1 rfl hl (by decide) rfl (fun ls hl => ?_)
  have LP2 : ∀ (st2 : Int32) (ex2 : (Unit) ⊕ (Unit)), loop (xo_X1_isFirst_L2 (σ.1 2012) (σ.1 2027) (σ.2.2.1 1170) (σ.2.2.1 2043) x1) st2 = some ex2 → ∀ (H : Heap) (locs : List Loc), PIC D clsA G dsc ad σ H → va_S A s.heap H locs → ∀ (ls : Array Slot), lv_has ls 3 [(0, .ref (ad 1000)), (1, .int x1), (2, .int st2)] → (ex2 = (.inl (())) → ∀ (H : Heap) (locs : List Loc), PIC D clsA G dsc ad σ H → va_S A s.heap H locs → ∀ (ls : Array Slot), lv_has ls 3 [] → W p l e rmX1_isFirst s m args below meth c0 H locs 0 0 Q (F0 m 60 ls [])) → (ex2 = (.inr ()) → ∀ (H : Heap) (locs : List Loc), PIC D clsA G dsc ad σ H → va_S A s.heap H locs → ∀ (ls : Array Slot), lv_has ls 3 [] → W p l e rmX1_isFirst s m args below meth c0 H locs 0 0 Q (F0 m 68 ls [])) → W p l e rmX1_isFirst s m args below meth c0 H locs 0 0 Q (F0 m 2 ls []) := by
    refine loop_P (fun st2 ex2 o2 hf ih2 hx2 => ?_)
    obtain ⟨y1, rfl⟩ : ∃ z, z = st2 := ⟨_, rfl⟩
    intro H locs (hP : PIC D clsA G dsc ad σ H) hS ls (hl : lv_has ls 3 [(0, .ref (ad 1000)), (1, .int x1), (2, .int y1)]) KE2_0 KE2_1
    dsimp only [xo_X1_isFirst_L2] at hf
    refine lv_iload_n hx hb dX1_isFirst_2 rfl (lv_at hl 2 rfl) ?_
    refine lv_aload_n hx hb dX1_isFirst_3 rfl (lv_at hl 0 rfl) ?_
    refine gx_X1_33_1000 E hX hD hP dX1_isFirst_4 ?_
    refine gx_X1_246_2000 E hX hD hP dX1_isFirst_7 ?_
    obtain ⟨v2, u3, hf⟩ := bdP hf
    refine cx_X1_190_J2_size_Ld E hX hD hP hS hA (kxJ2_size_Ld l D G hD rfl u3) ⟨rfl, rfl⟩ ⟨Nat.le_of_ble_eq_true rfl, Nat.le_of_ble_eq_true rfl⟩ ⟨Nat.zero_le _, Nat.zero_le _⟩ hl.1 (Nat.le_of_ble_eq_true rfl) dX1_isFirst_10 (fun H locs hP hS => ?_)
    refine lv_icmp_ge (tgt := 68) hx hb dX1_isFirst_13 (by decide) (fun c4 => ?_) (fun c4 => ?_)
    · have hf := ifT c4 hf
      exact KE2_1  (hx2 _ (Option.some.inj hf).symm).symm H locs hP hS ls (lv_sub hl [] rfl)
    · have hf := ifF c4 hf
      refine lv_aload_n hx hb dX1_isFirst_16 rfl (lv_at hl 0 rfl) ?_
      refine gx_X1_33_1000 E hX hD hP dX1_isFirst_17 ?_
      refine gx_X1_439_2000 E hX hD hP dX1_isFirst_20 ?_
      refine lv_aload_n hx hb dX1_isFirst_23 rfl (lv_at hl 0 rfl) ?_
      refine gx_X1_33_1000 E hX hD hP dX1_isFirst_24 ?_
      refine gx_X1_253_2000 (v := (σ.1 2012)) E hX hD hP rfl dX1_isFirst_27 ?_
      obtain ⟨v5, hv5, hf⟩ := bdP hf
      refine p_iald hx hb hX.1 hP (hD.1 _ _ dX_2043) rfl hv5 dX1_isFirst_30 ?_
      refine lv_iload_n hx hb dX1_isFirst_31 rfl (lv_at hl 2 rfl) ?_
      refine lv_ishr hx hb dX1_isFirst_32 ?_
      refine lv_iconst hx hb dX1_isFirst_33 ic_1 ?_
      refine lv_iand hx hb dX1_isFirst_34 ?_
      refine lv_iconst hx hb dX1_isFirst_35 ic_1 ?_
      have J44 : ∀ (k6 : Int32), xo_X1_isFirst_J44 (σ.2.2.1 1170) x1 y1 k6 = some o2 → ∀ (H : Heap) (locs : List Loc), PIC D clsA G dsc ad σ H → va_S A s.heap H locs → ∀ (ls : Array Slot), lv_has ls 3 [(0, .ref (ad 1000)), (1, .int x1), (2, .int y1)] → W p l e rmX1_isFirst s m args below meth c0 H locs 0 0 Q (F0 m 44 ls [.int k6]) := by
        intro k6 hf H locs hP hS ls hl
        unfold xo_X1_isFirst_J44 at hf
        refine lv_iload_n hx hb dX1_isFirst_44 rfl (lv_at hl 1 rfl) ?_
        refine lv_iload_n hx hb dX1_isFirst_45 rfl (lv_at hl 2 rfl) ?_
        obtain ⟨v7, u8, hf⟩ := bdP hf
        refine cx_X1_290_X1_digit E hX hD hP hS hA (kxX1_digit l D G hD rfl u8) ⟨rfl, rfl⟩ ⟨Nat.le_of_ble_eq_true rfl, Nat.le_of_ble_eq_true rfl⟩ ⟨Nat.zero_le _, Nat.zero_le _⟩ hl.1 (Nat.le_of_ble_eq_true rfl) dX1_isFirst_46 (fun H locs hP hS => ?_)
        have J57 : ∀ (k9 : Int32) (k10 : Int32), xo_X1_isFirst_J57 y1 k9 k10 = some o2 → ∀ (H : Heap) (locs : List Loc), PIC D clsA G dsc ad σ H → va_S A s.heap H locs → ∀ (ls : Array Slot), lv_has ls 3 [(0, .ref (ad 1000)), (1, .int x1), (2, .int y1)] → W p l e rmX1_isFirst s m args below meth c0 H locs 0 0 Q (F0 m 57 ls [.int k9, .int k10]) := by
          intro k9 k10 hf H locs hP hS ls hl
          unfold xo_X1_isFirst_J57 at hf
          refine lv_icmp_ne (tgt := 62) hx hb dX1_isFirst_57 (by decide) (fun c11 => ?_) (fun c11 => ?_)
          · have hf := ifF c11 hf
            obtain ⟨v12, hv12, hf⟩ := bdP hf
            refine lv_iinc (v := v12) (lv' := [(2, .int v12), (0, .ref (ad 1000)), (1, .int x1)]) hx hb dX1_isFirst_62 hl (k := 2) rfl (Option.some.inj hv12) (by decide) rfl (fun ls hl => ?_)
            refine lv_goto (tgt := 2) hx hb dX1_isFirst_65 (by decide) ?_
            exact ih2 _ (Option.some.inj hf).symm H locs hP hS ls (lv_sub hl [1, 2, 0] rfl) KE2_0 KE2_1
          · have hf := ifT c11 hf
            exact KE2_0  (hx2 _ (Option.some.inj hf).symm).symm H locs hP hS ls (lv_sub hl [] rfl)
        refine lv_if_ne (tgt := 56) hx hb dX1_isFirst_49 (by decide) (fun c13 => ?_) (fun c13 => ?_)
        · have hf := ifF c13 hf
          refine lv_iconst hx hb dX1_isFirst_56 ic_0 ?_
          exact J57 0 k6 hf H locs hP hS ls (lv_sub hl [0, 1, 2] rfl)
        · have hf := ifT c13 hf
          refine lv_iconst hx hb dX1_isFirst_52 ic_1 ?_
          refine lv_goto (tgt := 57) hx hb dX1_isFirst_53 (by decide) ?_
          exact J57 1 k6 hf H locs hP hS ls (lv_sub hl [0, 1, 2] rfl)
      refine lv_icmp_ne (tgt := 43) hx hb dX1_isFirst_36 (by decide) (fun c14 => ?_) (fun c14 => ?_)
      · have hf := ifF c14 hf
        refine lv_iconst hx hb dX1_isFirst_43 ic_0 ?_
        exact J44 0 hf H locs hP hS ls (lv_sub hl [0, 1, 2] rfl)
      · have hf := ifT c14 hf
        refine lv_iconst hx hb dX1_isFirst_39 ic_1 ?_
        refine lv_goto (tgt := 44) hx hb dX1_isFirst_40 (by decide) ?_
        exact J44 1 hf H locs hP hS ls (lv_sub hl [0, 1, 2] rfl)
  obtain ⟨ex2, hlp2, hf⟩ := bdP hf
  refine LP2 0 ex2 hlp2 H locs hP hS ls (lv_sub hl [1, 2, 0] rfl) ?_ ?_
  · intro  hex2 H locs hP hS ls hl
    subst ex2
    dsimp only [sE_l, sE_r] at hf
    refine lv_iconst hx hb dX1_isFirst_60 ic_0 ?_
    cases hf
    rw [hQ]; exact g_nret hx hb hr hlk hP hS rfl dX1_isFirst_61
  · intro  hex2 H locs hP hS ls hl
    subst ex2
    dsimp only [sE_l, sE_r] at hf
    refine lv_iconst hx hb dX1_isFirst_68 ic_1 ?_
    cases hf
    rw [hQ]; exact g_nret hx hb hr hlk hP hS rfl dX1_isFirst_69
theorem kxX1_isFirst (l : Launch) (D : va_G) (G : Nat → ClassId) {dsc : Nat → Option Dsc} {ad : Nat → Nat} {σ : Sto} {nr nw nu : Nat} (hD : XD dsc nr nw nu) {x1 : Int32} {r_ : Int32} {z_L_from : Int32} (e_zI2012 : σ.1 2012 = z_L_from) {z_Ld_size : Int32} (e_zI2027 : σ.1 2027 = z_Ld_size) {a_UNIT : Nat → Int32} (e_aI1170 : σ.2.2.1 1170 = a_UNIT) {a_L_seen : Nat → Int32} (e_aI2043 : σ.2.2.1 2043 = a_L_seen) (hf : xo_X1_isFirst z_L_from z_Ld_size a_UNIT a_L_seen x1 = some r_) : CtG l D G dsc ad yX1_isFirst (ws_ yX1_isFirst cX1_isFirst 3 (Option.some Jvm.ClassFile.FieldType.boolean)) rmX1_isFirst [.ref (ad 1000), .int x1] σ (some (.int r_)) σ := by
  subst e_zI2012
  subst e_zI2027
  subst e_aI1170
  subst e_aI2043
  exact p_ctG (by decide +kernel) (Nat.le_of_ble_eq_true rfl) (fun p e s m below meth c0 ls A E hP hX hA hS hl => wkX1_isFirst E hX hD hA hf rfl hP hS hl)
/-! X5_next_TO (II)I -/
abbrev rmX5_next_TO : Room := { frames := 45, cells := 0, slots := 0, locals := 1241 }
set_option maxHeartbeats 4000000 in
theorem wkX5_next_TO {x1 : Int32} {x2 : Int32} {r_ : Int32} (E : EN p s m args meth c0 RX5 cX5_next 4 (Option.some Jvm.ClassFile.FieldType.int)) (hX : KX D G ad A s s.heap) (hD : XD dsc nr nw nu) (hA : ∀ q, PA dsc ad s.heap.size q → A q) (hf : xo_X5_next_TB (σ.1 1072) (σ.1 2008) (σ.1 2013) (σ.1 2027) (σ.1 2032) (σ.2.1 1071) (σ.2.2.1 1170) (σ.2.2.1 2037) (σ.2.2.1 2043) (σ.2.2.2.1 1143) (σ.2.2.2.1 1151) nr nw (fun k => σ.1 (6000 + 16 * k + 2)) (fun k => σ.1 (6000 + 16 * k + 5)) (fun k => σ.1 (6000 + 16 * k + 6)) (fun k => σ.1 (8000 + 16 * k + 0)) (fun k => σ.1 (8000 + 16 * k + 1)) (fun k => σ.1 (8000 + 16 * k + 2)) (fun k => σ.2.2.1 (4000 + 16 * k)) x1 x2 = some r_) (hQ : Q = MQ below (va_G1 (some (.int r_)) (fun t => PIC D clsA G dsc ad σ t.heap) A) args s 0 0 A) (hP : PIC D clsA G dsc ad σ H) (hS : va_S A s.heap H locs) (hl : lv_has ls 4 [(0, .ref (ad 1070)), (1, .int x1), (2, .int x2)]) : W p l e rmX5_next_TO s m args below meth c0 H locs 0 0 Q (F0 m 0 ls []) := by
  obtain ⟨⟨hx, hb, hml, hown, hts⟩, hr, hlk⟩ := id E
  unfold xo_X5_next_TB at hf
  refine lv_iload_n hx hb dX5_next_0 rfl (lv_at hl 1 rfl) ?_
  refine lv_aload_n hx hb dX5_next_1 rfl (lv_at hl 0 rfl) ?_
  refine gx_X5_3_1070 E hX hD hP dX5_next_2 ?_
  refine gx_X5_27_1000 E hX hD hP dX5_next_5 ?_
  refine gx_X5_67_2000 (v := (σ.1 2013)) E hX hD hP rfl dX5_next_8 ?_
  refine lv_icmp_eq (tgt := 28) hx hb dX5_next_11 (by decide) (fun c1 => ?_) (fun c1 => ?_)
  · have hf := ifT c1 hf
    refine lv_bipush hx hb dX5_next_28 bp_m2 ?_
    cases hf
    rw [hQ]; exact g_iret hx hb hr hlk hP hS dX5_next_30
  · have hf := ifF c1 hf
    refine lv_aload_n hx hb dX5_next_14 rfl (lv_at hl 0 rfl) ?_
    refine lv_iload_n hx hb dX5_next_15 rfl (lv_at hl 1 rfl) ?_
    refine lv_iload_n hx hb dX5_next_16 rfl (lv_at hl 2 rfl) ?_
    obtain ⟨v2, u3, hf⟩ := bdP hf
    refine cx_X5_81_X5_value_TO E hX hD hP hS hA (kxX5_value_TO l D G hD rfl u3) ⟨rfl, rfl⟩ ⟨Nat.le_of_ble_eq_true rfl, Nat.le_of_ble_eq_true rfl⟩ ⟨Nat.zero_le _, Nat.zero_le _⟩ hl.1 (Nat.le_of_ble_eq_true rfl) dX5_next_17 (fun H locs hP hS => ?_)
    refine lv_aload_n hx hb dX5_next_20 rfl (lv_at hl 0 rfl) ?_
    refine gx_X5_19_1070 (v := (σ.2.1 1071)) E hX hD hP rfl dX5_next_21 ?_
    refine W.lcmp hx hb dX5_next_24 ?_
    refine lv_if_ne (tgt := 31) hx hb dX5_next_25 (by decide) (fun c4 => ?_) (fun c4 => ?_)
    · have hf := ifF (mt (lgc_eq _ _).mpr c4) hf
      refine lv_iconst hx hb dX5_next_31 ic_0 ?_
      refine lv_istore_n (lv' := [(3, .int 0), (0, .ref (ad 1070)), (1, .int x1), (2, .int x2)]) hx hb dX5_next_32 rfl hl (by decide) rfl (fun ls hl => ?_)
      have LP33 : ∀ (st33 : Int32) (ex33 : (Int32) ⊕ (Unit)), loop (xo_X5_next_TB_L33 (σ.1 1072) (σ.1 2008) (σ.1 2013) (σ.1 2027) (σ.2.1 1071) (σ.2.2.1 1170) (σ.2.2.1 2043) (σ.2.2.2.1 1143) (σ.2.2.2.1 1151) nr (fun k => σ.1 (6000 + 16 * k + 2)) (fun k => σ.1 (6000 + 16 * k + 5)) (fun k => σ.1 (6000 + 16 * k + 6)) (fun k => σ.2.2.1 (4000 + 16 * k)) x1 x2) st33 = some ex33 → ∀ (H : Heap) (locs : List Loc), PIC D clsA G dsc ad σ H → va_S A s.heap H locs → ∀ (ls : Array Slot), lv_has ls 4 [(0, .ref (ad 1070)), (1, .int x1), (2, .int x2), (3, .int st33)] → (∀ (y13 : Int32), ex33 = (.inl y13) → ∀ (H : Heap) (locs : List Loc), PIC D clsA G dsc ad σ H → va_S A s.heap H locs → ∀ (ls : Array Slot), lv_has ls 4 [(3, .int y13)] → W p l e rmX5_next_TO s m args below meth c0 H locs 0 0 Q (F0 m 64 ls [])) → (ex33 = (.inr ()) → ∀ (H : Heap) (locs : List Loc), PIC D clsA G dsc ad σ H → va_S A s.heap H locs → ∀ (ls : Array Slot), lv_has ls 4 [(0, .ref (ad 1070)), (1, .int x1), (2, .int x2)] → W p l e rmX5_next_TO s m args below meth c0 H locs 0 0 Q (F0 m 72 ls [])) → W p l e rmX5_next_TO s m args below meth c0 H locs 0 0 Q (F0 m 33 ls []) := by
        refine loop_P (fun st33 ex33 o33 hf ih33 hx33 => ?_)
        obtain ⟨y5, rfl⟩ : ∃ z, z = st33 := ⟨_, rfl⟩
        intro H locs (hP : PIC D clsA G dsc ad σ H) hS ls (hl : lv_has ls 4 [(0, .ref (ad 1070)), (1, .int x1), (2, .int x2), (3, .int y5)]) KE33_0 KE33_1
        dsimp only [xo_X5_next_TB_L33] at hf
        refine lv_iload_n hx hb dX5_next_33 rfl (lv_at hl 3 rfl) ?_
        refine lv_aload_n hx hb dX5_next_34 rfl (lv_at hl 0 rfl) ?_
        refine gx_X5_3_1070 E hX hD hP dX5_next_35 ?_
        refine gx_X5_27_1000 E hX hD hP dX5_next_38 ?_
        refine gx_X5_63_2000 (v := (σ.1 2008)) E hX hD hP rfl dX5_next_41 ?_
        refine lv_icmp_ge (tgt := 72) hx hb dX5_next_44 (by decide) (fun c6 => ?_) (fun c6 => ?_)
        · have hf := ifT c6 hf
          exact KE33_1  (hx33 _ (Option.some.inj hf).symm).symm H locs hP hS ls (lv_sub hl [0, 1, 2] rfl)
        · have hf := ifF c6 hf
          refine lv_aload_n hx hb dX5_next_47 rfl (lv_at hl 0 rfl) ?_
          refine lv_iload_n hx hb dX5_next_48 rfl (lv_at hl 1 rfl) ?_
          refine lv_iload_n hx hb dX5_next_49 rfl (lv_at hl 3 rfl) ?_
          refine lv_iload_n hx hb dX5_next_50 rfl (lv_at hl 2 rfl) ?_
          obtain ⟨v7, u8, hf⟩ := bdP hf
          refine cx_X5_84_X5_going_TO E hX hD hP hS hA (kxX5_going_TO l D G hD rfl rfl rfl rfl rfl rfl rfl rfl rfl rfl rfl rfl rfl u8) ⟨rfl, rfl⟩ ⟨Nat.le_of_ble_eq_true rfl, Nat.le_of_ble_eq_true rfl⟩ ⟨Nat.zero_le _, Nat.zero_le _⟩ hl.1 (Nat.le_of_ble_eq_true rfl) dX5_next_51 (fun H locs hP hS => ?_)
          refine lv_aload_n hx hb dX5_next_54 rfl (lv_at hl 0 rfl) ?_
          refine lv_iload_n hx hb dX5_next_55 rfl (lv_at hl 1 rfl) ?_
          refine lv_iload_n hx hb dX5_next_56 rfl (lv_at hl 2 rfl) ?_
          obtain ⟨v9, u10, hf⟩ := bdP hf
          refine cx_X5_81_X5_value_TO E hX hD hP hS hA (kxX5_value_TO l D G hD rfl u10) ⟨rfl, rfl⟩ ⟨Nat.le_of_ble_eq_true rfl, Nat.le_of_ble_eq_true rfl⟩ ⟨Nat.zero_le _, Nat.zero_le _⟩ hl.1 (Nat.le_of_ble_eq_true rfl) dX5_next_57 (fun H locs hP hS => ?_)
          refine W.lcmp hx hb dX5_next_60 ?_
          refine lv_if_ne (tgt := 66) hx hb dX5_next_61 (by decide) (fun c11 => ?_) (fun c11 => ?_)
          · have hf := ifF (mt (lgc_eq _ _).mpr c11) hf
            obtain ⟨v12, hv12, hf⟩ := bdP hf
            refine lv_iinc (v := v12) (lv' := [(3, .int v12), (0, .ref (ad 1070)), (1, .int x1), (2, .int x2)]) hx hb dX5_next_66 hl (k := 3) rfl (Option.some.inj hv12) (by decide) rfl (fun ls hl => ?_)
            refine lv_goto (tgt := 33) hx hb dX5_next_69 (by decide) ?_
            exact ih33 _ (Option.some.inj hf).symm H locs hP hS ls (lv_sub hl [1, 2, 3, 0] rfl) KE33_0 KE33_1
          · have hf := ifT ((lgc_eq _ _).mp c11) hf
            exact KE33_0 _ (hx33 _ (Option.some.inj hf).symm).symm H locs hP hS ls (lv_sub hl [3] rfl)
      obtain ⟨ex33, hlp33, hf⟩ := bdP hf
      refine LP33 0 ex33 hlp33 H locs hP hS ls (lv_sub hl [1, 2, 3, 0] rfl) ?_ ?_
      · intro y13 hex33 H locs hP hS ls hl
        subst ex33
        dsimp only [sE_l, sE_r] at hf
        refine lv_iload_n hx hb dX5_next_64 rfl (lv_at hl 0 rfl) ?_
        cases hf
        rw [hQ]; exact g_iret hx hb hr hlk hP hS dX5_next_65
      · intro  hex33 H locs hP hS ls hl
        subst ex33
        dsimp only [sE_l, sE_r] at hf
        refine lv_iconst hx hb dX5_next_72 ic_0 ?_
        refine lv_istore_n (lv' := [(3, .int 0), (0, .ref (ad 1070)), (1, .int x1), (2, .int x2)]) hx hb dX5_next_73 rfl hl (by decide) rfl (fun ls hl => ?_)
        have LP74 : ∀ (st74 : Int32) (ex74 : (Int32) ⊕ (Unit)), loop (xo_X5_next_TB_L74 (σ.1 1072) (σ.1 2013) (σ.1 2027) (σ.1 2032) (σ.2.1 1071) (σ.2.2.1 1170) (σ.2.2.1 2037) (σ.2.2.1 2043) (σ.2.2.2.1 1143) (σ.2.2.2.1 1151) nw (fun k => σ.1 (8000 + 16 * k + 0)) (fun k => σ.1 (8000 + 16 * k + 1)) (fun k => σ.1 (8000 + 16 * k + 2)) x1 x2) st74 = some ex74 → ∀ (H : Heap) (locs : List Loc), PIC D clsA G dsc ad σ H → va_S A s.heap H locs → ∀ (ls : Array Slot), lv_has ls 4 [(0, .ref (ad 1070)), (1, .int x1), (2, .int x2), (3, .int st74)] → (∀ (y24 : Int32), ex74 = (.inl y24) → ∀ (H : Heap) (locs : List Loc), PIC D clsA G dsc ad σ H → va_S A s.heap H locs → ∀ (ls : Array Slot), lv_has ls 4 [(3, .int y24)] → W p l e rmX5_next_TO s m args below meth c0 H locs 0 0 Q (F0 m 108 ls [])) → (ex74 = (.inr ()) → ∀ (H : Heap) (locs : List Loc), PIC D clsA G dsc ad σ H → va_S A s.heap H locs → ∀ (ls : Array Slot), lv_has ls 4 [] → W p l e rmX5_next_TO s m args below meth c0 H locs 0 0 Q (F0 m 119 ls [])) → W p l e rmX5_next_TO s m args below meth c0 H locs 0 0 Q (F0 m 74 ls []) := by
          refine loop_P (fun st74 ex74 o74 hf ih74 hx74 => ?_)
          obtain ⟨y14, rfl⟩ : ∃ z, z = st74 := ⟨_, rfl⟩
          intro H locs (hP : PIC D clsA G dsc ad σ H) hS ls (hl : lv_has ls 4 [(0, .ref (ad 1070)), (1, .int x1), (2, .int x2), (3, .int y14)]) KE74_0 KE74_1
          dsimp only [xo_X5_next_TB_L74] at hf
          refine lv_iload_n hx hb dX5_next_74 rfl (lv_at hl 3 rfl) ?_
          refine lv_aload_n hx hb dX5_next_75 rfl (lv_at hl 0 rfl) ?_
          refine gx_X5_3_1070 E hX hD hP dX5_next_76 ?_
          refine gx_X5_27_1000 E hX hD hP dX5_next_79 ?_
          refine gx_X5_92_2000 E hX hD hP dX5_next_82 ?_
          obtain ⟨v15, u16, hf⟩ := bdP hf
          refine cx_X5_37_J2_size_Lw E hX hD hP hS hA (kxJ2_size_Lw l D G hD rfl u16) ⟨rfl, rfl⟩ ⟨Nat.le_of_ble_eq_true rfl, Nat.le_of_ble_eq_true rfl⟩ ⟨Nat.zero_le _, Nat.zero_le _⟩ hl.1 (Nat.le_of_ble_eq_true rfl) dX5_next_85 (fun H locs hP hS => ?_)
          refine lv_icmp_ge (tgt := 119) hx hb dX5_next_88 (by decide) (fun c17 => ?_) (fun c17 => ?_)
          · have hf := ifT c17 hf
            exact KE74_1  (hx74 _ (Option.some.inj hf).symm).symm H locs hP hS ls (lv_sub hl [] rfl)
          · have hf := ifF c17 hf
            refine lv_aload_n hx hb dX5_next_91 rfl (lv_at hl 0 rfl) ?_
            refine lv_iload_n hx hb dX5_next_92 rfl (lv_at hl 1 rfl) ?_
            refine lv_iload_n hx hb dX5_next_93 rfl (lv_at hl 3 rfl) ?_
            refine lv_iload_n hx hb dX5_next_94 rfl (lv_at hl 2 rfl) ?_
            obtain ⟨v18, u19, hf⟩ := bdP hf
            refine cx_X5_95_X5_buying_TO E hX hD hP hS hA (kxX5_buying_TO l D G hD rfl rfl rfl rfl rfl rfl rfl rfl rfl rfl rfl rfl rfl rfl u19) ⟨rfl, rfl⟩ ⟨Nat.le_of_ble_eq_true rfl, Nat.le_of_ble_eq_true rfl⟩ ⟨Nat.zero_le _, Nat.zero_le _⟩ hl.1 (Nat.le_of_ble_eq_true rfl) dX5_next_95 (fun H locs hP hS => ?_)
            refine lv_aload_n hx hb dX5_next_98 rfl (lv_at hl 0 rfl) ?_
            refine lv_iload_n hx hb dX5_next_99 rfl (lv_at hl 1 rfl) ?_
            refine lv_iload_n hx hb dX5_next_100 rfl (lv_at hl 2 rfl) ?_
            obtain ⟨v20, u21, hf⟩ := bdP hf
            refine cx_X5_81_X5_value_TO E hX hD hP hS hA (kxX5_value_TO l D G hD rfl u21) ⟨rfl, rfl⟩ ⟨Nat.le_of_ble_eq_true rfl, Nat.le_of_ble_eq_true rfl⟩ ⟨Nat.zero_le _, Nat.zero_le _⟩ hl.1 (Nat.le_of_ble_eq_true rfl) dX5_next_101 (fun H locs hP hS => ?_)
            refine W.lcmp hx hb dX5_next_104 ?_
            refine lv_if_ne (tgt := 113) hx hb dX5_next_105 (by decide) (fun c22 => ?_) (fun c22 => ?_)
            · have hf := ifF (mt (lgc_eq _ _).mpr c22) hf
              obtain ⟨v23, hv23, hf⟩ := bdP hf
              refine lv_iinc (v := v23) (lv' := [(3, .int v23), (0, .ref (ad 1070)), (1, .int x1), (2, .int x2)]) hx hb dX5_next_113 hl (k := 3) rfl (Option.some.inj hv23) (by decide) rfl (fun ls hl => ?_)
              refine lv_goto (tgt := 74) hx hb dX5_next_116 (by decide) ?_
              exact ih74 _ (Option.some.inj hf).symm H locs hP hS ls (lv_sub hl [1, 2, 3, 0] rfl) KE74_0 KE74_1
            · have hf := ifT ((lgc_eq _ _).mp c22) hf
              exact KE74_0 _ (hx74 _ (Option.some.inj hf).symm).symm H locs hP hS ls (lv_sub hl [3] rfl)
        obtain ⟨ex74, hlp74, hf⟩ := bdP hf
        refine LP74 0 ex74 hlp74 H locs hP hS ls (lv_sub hl [1, 2, 3, 0] rfl) ?_ ?_
        · intro y24 hex74 H locs hP hS ls hl
          subst ex74
          dsimp only [sE_l, sE_r] at hf
          refine lv_bipush hx hb dX5_next_108 bp_100 ?_
          refine lv_iload_n hx hb dX5_next_110 rfl (lv_at hl 0 rfl) ?_
          refine lv_iadd hx hb dX5_next_111 ?_
          cases hf
          rw [hQ]; exact g_iret hx hb hr hlk hP hS dX5_next_112
        · intro  hex74 H locs hP hS ls hl
          subst ex74
          dsimp only [sE_l, sE_r] at hf
          refine lv_bipush hx hb dX5_next_119 bp_m2 ?_
          cases hf
          rw [hQ]; exact g_iret hx hb hr hlk hP hS dX5_next_121
    · have hf := ifT ((lgc_eq _ _).mp c4) hf
      refine lv_bipush hx hb dX5_next_28 bp_m2 ?_
      cases hf
      rw [hQ]; exact g_iret hx hb hr hlk hP hS dX5_next_30
theorem kxX5_next_TO (l : Launch) (D : va_G) (G : Nat → ClassId) {dsc : Nat → Option Dsc} {ad : Nat → Nat} {σ : Sto} {nr nw nu : Nat} (hD : XD dsc nr nw nu) {x1 : Int32} {x2 : Int32} {r_ : Int32} {z_TO_by : Int32} (e_zI1072 : σ.1 1072 = z_TO_by) {z_L_places : Int32} (e_zI2008 : σ.1 2008 = z_L_places) {z_L_to : Int32} (e_zI2013 : σ.1 2013 = z_L_to) {z_Ld_size : Int32} (e_zI2027 : σ.1 2027 = z_Ld_size) {z_Lw_size : Int32} (e_zI2032 : σ.1 2032 = z_Lw_size) {z_TO_none : Int64} (e_zL1071 : σ.2.1 1071 = z_TO_none) {a_UNIT : Nat → Int32} (e_aI1170 : σ.2.2.1 1170 = a_UNIT) {a_Lw_data : Nat → Int32} (e_aI2037 : σ.2.2.1 2037 = a_Lw_data) {a_L_seen : Nat → Int32} (e_aI2043 : σ.2.2.1 2043 = a_L_seen) {a_O_likely : Nat → Int64} (e_aL1143 : σ.2.2.2.1 1143 = a_O_likely) {a_TO_value : Nat → Int64} (e_aL1151 : σ.2.2.2.1 1151 = a_TO_value) {n_r : Nat} (e_nN0 : nr = n_r) {n_w : Nat} (e_nN1 : nw = n_w) {p_road_hours : Nat → Int32} (e_pR2 : (fun k => σ.1 (6000 + 16 * k + 2)) = p_road_hours) {p_road_wait : Nat → Int32} (e_pR5 : (fun k => σ.1 (6000 + 16 * k + 5)) = p_road_wait) {p_road_number : Nat → Int32} (e_pR6 : (fun k => σ.1 (6000 + 16 * k + 6)) = p_road_number) {p_word_place : Nat → Int32} (e_pW0 : (fun k => σ.1 (8000 + 16 * k + 0)) = p_word_place) {p_word_road : Nat → Int32} (e_pW1 : (fun k => σ.1 (8000 + 16 * k + 1)) = p_word_road) {p_word_hours : Nat → Int32} (e_pW2 : (fun k => σ.1 (8000 + 16 * k + 2)) = p_word_hours) {g_grid : Nat → Nat → Int32} (e_gG0 : (fun k => σ.2.2.1 (4000 + 16 * k)) = g_grid) (hf : xo_X5_next_TB z_TO_by z_L_places z_L_to z_Ld_size z_Lw_size z_TO_none a_UNIT a_Lw_data a_L_seen a_O_likely a_TO_value n_r n_w p_road_hours p_road_wait p_road_number p_word_place p_word_road p_word_hours g_grid x1 x2 = some r_) : CtG l D G dsc ad yX5_next (ws_ yX5_next cX5_next 4 (Option.some Jvm.ClassFile.FieldType.int)) rmX5_next_TO [.ref (ad 1070), .int x1, .int x2] σ (some (.int r_)) σ := by
  subst e_zI1072
  subst e_zI2008
  subst e_zI2013
  subst e_zI2027
  subst e_zI2032
  subst e_zL1071
  subst e_aI1170
  subst e_aI2037
  subst e_aI2043
  subst e_aL1143
  subst e_aL1151
  subst e_nN0
  subst e_nN1
  subst e_pR2
  subst e_pR5
  subst e_pR6
  subst e_pW0
  subst e_pW1
  subst e_pW2
  subst e_gG0
  exact p_ctG (by decide +kernel) (Nat.le_of_ble_eq_true rfl) (fun p e s m below meth c0 ls A E hP hX hA hS hl => wkX5_next_TO E hX hD hA hf rfl hP hS hl)
theorem cx_X1_435_X1_isFirst {rm : Room} {σ1 : Sto} {x1 : Int32} {r : Int32} (E : EN p s m args meth c0 RX1 cc nL ret) (hX : KX D G ad A s s.heap) (hD : XD dsc nr nw nu) (hP : PIC D clsA G dsc ad σ H) (hS : va_S A s.heap H locs) (hA : ∀ q, PA dsc ad s.heap.size q → A q) (hM : CtG l D G dsc ad yX1_isFirst (ws_ yX1_isFirst cX1_isFirst 3 (Option.some Jvm.ClassFile.FieldType.boolean)) rm [.ref (ad 1000), .int x1] σ (some (.int r)) σ1) (hz : rm.cells = 0 ∧ rm.slots = 0) (hR : rm.frames + 1 ≤ R.frames ∧ 8 + (3 + 11) + rm.locals ≤ R.locals) (hcs : cells ≤ R.cells ∧ slots ≤ R.slots) (hsz : ls.size = nL) (hW : (rest.map fun v => v.category).sum ≤ 8) (hdg : decode cc pc = .ok (.invokevirtual 435, 3)) (kk : ∀ (H1 : Heap) (locs1 : List Loc), PIC D clsA G dsc ad σ1 H1 → va_S A s.heap H1 locs1 → W p l e R s m args below meth c0 H1 locs1 cells slots Q (F0 m (pc + 3) ls (.int r :: rest))) : W p l e R s m args below meth c0 H locs cells slots Q (F0 m pc ls (.int x1 :: .ref (ad 1000) :: rest)) :=
  p_gV (As := [.int x1]) (rest := rest) E.1 hX hP hS hA hM (cwV 1 E.1.2.2.2.2 (lw_V q1510 q1512 qs41 q124 q1513) rfl hz.1 hz.2 (by decide +kernel) hR) (hD.1 _ _ dX_1000) rfl rfl rfl hsz rfl hW hdg hcs kk
theorem gx_X1_44_1000 (E : EN p s m args meth c0 RX1 cc nL ret) (hX : KX D G ad A s s.heap) (hD : XD dsc nr nw nu) (hP : PIC D clsA G dsc ad σ H) (hdg : decode cc pc = .ok (.getfield 44, 3)) (kk : W p l e R s m args below meth c0 H locs cells slots Q (F0 m (pc + 3) ls (.ref (ad 1055) :: rest))) : W p l e R s m args below meth c0 H locs cells slots Q (F0 m pc ls (.ref (ad 1000) :: rest)) :=
  p_get E.1.1 E.1.2.1 E.1.2.2.2.2 in_X1 E.1.2.2.2.1 hX.1 hP (hD.1 _ _ dX_1000) rfl 7 (by decide) (E.1.2.2.2.2 _ q517) (fun _ h => h) rfl rfl hdg kk
theorem gx_X1_284_1055 (E : EN p s m args meth c0 RX1 cc nL ret) (hX : KX D G ad A s s.heap) (hD : XD dsc nr nw nu) (hP : PIC D clsA G dsc ad σ H) (hdg : decode cc pc = .ok (.getfield 284, 3)) (kk : W p l e R s m args below meth c0 H locs cells slots Q (F0 m (pc + 3) ls (.ref (ad 1143) :: rest))) : W p l e R s m args below meth c0 H locs cells slots Q (F0 m pc ls (.ref (ad 1055) :: rest)) :=
  p_getN E.1.1 E.1.2.1 E.1.2.2.2.2 in_X4 E.1.2.2.2.1 hX.1 hP (hD.1 _ _ dX_1055) rfl 1 (by decide) (hX.2.1.1 _ q330 rfl) (fun _ h => h) rfl rfl hdg kk
theorem cx_X1_438_X5_next_TB {rm : Room} {σ1 : Sto} {x1 : Int32} {x2 : Int32} {r : Int32} (E : EN p s m args meth c0 RX1 cc nL ret) (hX : KX D G ad A s s.heap) (hD : XD dsc nr nw nu) (hP : PIC D clsA G dsc ad σ H) (hS : va_S A s.heap H locs) (hA : ∀ q, PA dsc ad s.heap.size q → A q) (hM : CtG l D G dsc ad yX5_next (ws_ yX5_next cX5_next 4 (Option.some Jvm.ClassFile.FieldType.int)) rm [.ref (ad 1060), .int x1, .int x2] σ (some (.int r)) σ1) (hz : rm.cells = 0 ∧ rm.slots = 0) (hR : rm.frames + 1 ≤ R.frames ∧ 8 + (4 + 11) + rm.locals ≤ R.locals) (hcs : cells ≤ R.cells ∧ slots ≤ R.slots) (hsz : ls.size = nL) (hW : (rest.map fun v => v.category).sum ≤ 8) (hdg : decode cc pc = .ok (.invokevirtual 438, 3)) (kk : ∀ (H1 : Heap) (locs1 : List Loc), PIC D clsA G dsc ad σ1 H1 → va_S A s.heap H1 locs1 → W p l e R s m args below meth c0 H1 locs1 cells slots Q (F0 m (pc + 3) ls (.int r :: rest))) : W p l e R s m args below meth c0 H locs cells slots Q (F0 m pc ls (.int x2 :: .int x1 :: .ref (ad 1060) :: rest)) :=
  p_gU (As := [.int x1, .int x2]) (rest := rest) E.1 hX hP hS hA hM (cw_any (owner := "ShutPasses$Table") (x := ⟨"ShutPasses$InMean", "next", "(II)I"⟩) (y := yX5_next) (C := "ShutPasses$InMean") (index := 438) (own := RX1) 2 E.1.2.2.2.2 (lw_meth q1309) rfl hz.1 hz.2 (E.1.2.2.2.2 _ q1514) (E.1.2.2.2.2 _ q1515) (va_Decl.of (E.1.2.2.2.2 _ q1304) (E.1.2.2.2.2 _ q1309)) (E.1.2.2.2.2 _ q1518) (E.1.2.2.2.2 _ q1304) (E.1.2.2.2.2 _ q131) (by decide +kernel) hR) (hD.1 _ _ dX_1060) rfl rfl rfl hsz rfl hW hdg hcs kk
theorem gx_X1_57_1000 (E : EN p s m args meth c0 RX1 cc nL ret) (hX : KX D G ad A s s.heap) (hD : XD dsc nr nw nu) (hP : PIC D clsA G dsc ad σ H) (hdg : decode cc pc = .ok (.getfield 57, 3)) (kk : W p l e R s m args below meth c0 H locs cells slots Q (F0 m (pc + 3) ls (.ref (ad 1070) :: rest))) : W p l e R s m args below meth c0 H locs cells slots Q (F0 m pc ls (.ref (ad 1000) :: rest)) :=
  p_get E.1.1 E.1.2.1 E.1.2.2.2.2 in_X1 E.1.2.2.2.1 hX.1 hP (hD.1 _ _ dX_1000) rfl 10 (by decide) (E.1.2.2.2.2 _ q521) (fun _ h => h) rfl rfl hdg kk
theorem cx_X1_438_X5_next_TO {rm : Room} {σ1 : Sto} {x1 : Int32} {x2 : Int32} {r : Int32} (E : EN p s m args meth c0 RX1 cc nL ret) (hX : KX D G ad A s s.heap) (hD : XD dsc nr nw nu) (hP : PIC D clsA G dsc ad σ H) (hS : va_S A s.heap H locs) (hA : ∀ q, PA dsc ad s.heap.size q → A q) (hM : CtG l D G dsc ad yX5_next (ws_ yX5_next cX5_next 4 (Option.some Jvm.ClassFile.FieldType.int)) rm [.ref (ad 1070), .int x1, .int x2] σ (some (.int r)) σ1) (hz : rm.cells = 0 ∧ rm.slots = 0) (hR : rm.frames + 1 ≤ R.frames ∧ 8 + (4 + 11) + rm.locals ≤ R.locals) (hcs : cells ≤ R.cells ∧ slots ≤ R.slots) (hsz : ls.size = nL) (hW : (rest.map fun v => v.category).sum ≤ 8) (hdg : decode cc pc = .ok (.invokevirtual 438, 3)) (kk : ∀ (H1 : Heap) (locs1 : List Loc), PIC D clsA G dsc ad σ1 H1 → va_S A s.heap H1 locs1 → W p l e R s m args below meth c0 H1 locs1 cells slots Q (F0 m (pc + 3) ls (.int r :: rest))) : W p l e R s m args below meth c0 H locs cells slots Q (F0 m pc ls (.int x2 :: .int x1 :: .ref (ad 1070) :: rest)) :=
  p_gU (As := [.int x1, .int x2]) (rest := rest) E.1 hX hP hS hA hM (cw_any (owner := "ShutPasses$Table") (x := ⟨"ShutPasses$InMean", "next", "(II)I"⟩) (y := yX5_next) (C := "ShutPasses$InMean") (index := 438) (own := RX1) 2 E.1.2.2.2.2 (lw_meth q1309) rfl hz.1 hz.2 (E.1.2.2.2.2 _ q1514) (E.1.2.2.2.2 _ q1515) (va_Decl.of (E.1.2.2.2.2 _ q1304) (E.1.2.2.2.2 _ q1309)) (E.1.2.2.2.2 _ q1518) (E.1.2.2.2.2 _ q1304) (E.1.2.2.2.2 _ q131) (by decide +kernel) hR) (hD.1 _ _ dX_1070) rfl rfl rfl hsz rfl hW hdg hcs kk
/-! X1_isOther ()Z -/
abbrev rmX1_isOther : Room := { frames := 46, cells := 0, slots := 0, locals := 1264 }
set_option maxHeartbeats 4000000 in
theorem wkX1_isOther {r_ : Int32} (E : EN p s m args meth c0 RX1 cX1_isOther 2 (Option.some Jvm.ClassFile.FieldType.boolean)) (hX : KX D G ad A s s.heap) (hD : XD dsc nr nw nu) (hA : ∀ q, PA dsc ad s.heap.size q → A q) (hf : xo_X1_isOther (σ.1 1062) (σ.1 1072) (σ.1 2008) (σ.1 2012) (σ.1 2013) (σ.1 2027) (σ.1 2032) (σ.2.1 1061) (σ.2.1 1071) (σ.2.2.1 1170) (σ.2.2.1 2037) (σ.2.2.1 2043) (σ.2.2.2.1 1141) (σ.2.2.2.1 1143) (σ.2.2.2.1 1150) (σ.2.2.2.1 1151) nr nw (fun k => σ.1 (6000 + 16 * k + 2)) (fun k => σ.1 (6000 + 16 * k + 5)) (fun k => σ.1 (6000 + 16 * k + 6)) (fun k => σ.1 (8000 + 16 * k + 0)) (fun k => σ.1 (8000 + 16 * k + 1)) (fun k => σ.1 (8000 + 16 * k + 2)) (fun k => σ.2.2.1 (4000 + 16 * k)) = some r_) (hQ : Q = MQ below (va_G1 (some (.int r_)) (fun t => PIC D clsA G dsc ad σ t.heap) A) args s 0 0 A) (hP : PIC D clsA G dsc ad σ H) (hS : va_S A s.heap H locs) (hl : lv_has ls 2 [(0, .ref (ad 1000))]) : W p l e rmX1_isOther s m args below meth c0 H locs 0 0 Q (F0 m 0 ls []) := by
  obtain ⟨⟨hx, hb, hml, hown, hts⟩, hr, hlk⟩ := id E
  unfold xo_X1_isOther at hf
  refine lv_iconst hx hb dX1_isOther_0 ic_0 ?_
  refine lv_istore_n (lv' := [(1, .int 0), (0, .ref (ad 1000))]) hx hb dX1_isOther_1 rfl hl (by decide) rfl (fun ls hl => ?_)
  have LP2 : ∀ (st2 : Int32) (ex2 : (Unit) ⊕ (Unit)), loop (xo_X1_isOther_L2 (σ.1 1062) (σ.1 1072) (σ.1 2008) (σ.1 2012) (σ.1 2013) (σ.1 2027) (σ.1 2032) (σ.2.1 1061) (σ.2.1 1071) (σ.2.2.1 1170) (σ.2.2.1 2037) (σ.2.2.1 2043) (σ.2.2.2.1 1141) (σ.2.2.2.1 1143) (σ.2.2.2.1 1150) (σ.2.2.2.1 1151) nr nw (fun k => σ.1 (6000 + 16 * k + 2)) (fun k => σ.1 (6000 + 16 * k + 5)) (fun k => σ.1 (6000 + 16 * k + 6)) (fun k => σ.1 (8000 + 16 * k + 0)) (fun k => σ.1 (8000 + 16 * k + 1)) (fun k => σ.1 (8000 + 16 * k + 2)) (fun k => σ.2.2.1 (4000 + 16 * k))) st2 = some ex2 → ∀ (H : Heap) (locs : List Loc), PIC D clsA G dsc ad σ H → va_S A s.heap H locs → ∀ (ls : Array Slot), lv_has ls 2 [(0, .ref (ad 1000)), (1, .int st2)] → (ex2 = (.inl (())) → ∀ (H : Heap) (locs : List Loc), PIC D clsA G dsc ad σ H → va_S A s.heap H locs → ∀ (ls : Array Slot), lv_has ls 2 [] → W p l e rmX1_isOther s m args below meth c0 H locs 0 0 Q (F0 m 85 ls [])) → (ex2 = (.inr ()) → ∀ (H : Heap) (locs : List Loc), PIC D clsA G dsc ad σ H → va_S A s.heap H locs → ∀ (ls : Array Slot), lv_has ls 2 [] → W p l e rmX1_isOther s m args below meth c0 H locs 0 0 Q (F0 m 93 ls [])) → W p l e rmX1_isOther s m args below meth c0 H locs 0 0 Q (F0 m 2 ls []) := by
    refine loop_P (fun st2 ex2 o2 hf ih2 hx2 => ?_)
    obtain ⟨y1, rfl⟩ : ∃ z, z = st2 := ⟨_, rfl⟩
    intro H locs (hP : PIC D clsA G dsc ad σ H) hS ls (hl : lv_has ls 2 [(0, .ref (ad 1000)), (1, .int y1)]) KE2_0 KE2_1
    dsimp only [xo_X1_isOther_L2] at hf
    refine lv_iload_n hx hb dX1_isOther_2 rfl (lv_at hl 1 rfl) ?_
    refine lv_aload_n hx hb dX1_isOther_3 rfl (lv_at hl 0 rfl) ?_
    refine gx_X1_33_1000 E hX hD hP dX1_isOther_4 ?_
    obtain ⟨v2, u3, hf⟩ := bdP hf
    refine cx_X1_266_X3_knowns E hX hD hP hS hA (kxX3_knowns l D G hD rfl rfl u3) ⟨rfl, rfl⟩ ⟨Nat.le_of_ble_eq_true rfl, Nat.le_of_ble_eq_true rfl⟩ ⟨Nat.zero_le _, Nat.zero_le _⟩ hl.1 (Nat.le_of_ble_eq_true rfl) dX1_isOther_7 (fun H locs hP hS => ?_)
    refine lv_icmp_ge (tgt := 93) hx hb dX1_isOther_10 (by decide) (fun c4 => ?_) (fun c4 => ?_)
    · have hf := ifT c4 hf
      exact KE2_1  (hx2 _ (Option.some.inj hf).symm).symm H locs hP hS ls (lv_sub hl [] rfl)
    · have hf := ifF c4 hf
      refine lv_aload_n hx hb dX1_isOther_13 rfl (lv_at hl 0 rfl) ?_
      refine lv_iload_n hx hb dX1_isOther_14 rfl (lv_at hl 1 rfl) ?_
      obtain ⟨v5, u6, hf⟩ := bdP hf
      refine cx_X1_435_X1_isFirst E hX hD hP hS hA (kxX1_isFirst l D G hD rfl rfl rfl rfl u6) ⟨rfl, rfl⟩ ⟨Nat.le_of_ble_eq_true rfl, Nat.le_of_ble_eq_true rfl⟩ ⟨Nat.zero_le _, Nat.zero_le _⟩ hl.1 (Nat.le_of_ble_eq_true rfl) dX1_isOther_15 (fun H locs hP hS => ?_)
      have J87 : xo_X1_isOther_J87 y1 = some o2 → ∀ (H : Heap) (locs : List Loc), PIC D clsA G dsc ad σ H → va_S A s.heap H locs → ∀ (ls : Array Slot), lv_has ls 2 [(0, .ref (ad 1000)), (1, .int y1)] → W p l e rmX1_isOther s m args below meth c0 H locs 0 0 Q (F0 m 87 ls []) := by
        intro  hf H locs hP hS ls hl
        unfold xo_X1_isOther_J87 at hf
        obtain ⟨v7, hv7, hf⟩ := bdP hf
        refine lv_iinc (v := v7) (lv' := [(1, .int v7), (0, .ref (ad 1000))]) hx hb dX1_isOther_87 hl (k := 1) rfl (Option.some.inj hv7) (by decide) rfl (fun ls hl => ?_)
        refine lv_goto (tgt := 2) hx hb dX1_isOther_90 (by decide) ?_
        exact ih2 _ (Option.some.inj hf).symm H locs hP hS ls (lv_sub hl [1, 0] rfl) KE2_0 KE2_1
      refine lv_if_eq (tgt := 87) hx hb dX1_isOther_18 (by decide) (fun c8 => ?_) (fun c8 => ?_)
      · have hf := ifT c8 hf
        exact J87  hf H locs hP hS ls (lv_sub hl [0, 1] rfl)
      · have hf := ifF c8 hf
        refine lv_aload_n hx hb dX1_isOther_21 rfl (lv_at hl 0 rfl) ?_
        refine gx_X1_40_1000 E hX hD hP dX1_isOther_22 ?_
        refine gx_X1_284_1050 E hX hD hP dX1_isOther_25 ?_
        refine lv_iload_n hx hb dX1_isOther_28 rfl (lv_at hl 1 rfl) ?_
        obtain ⟨v9, hv9, hf⟩ := bdP hf
        refine p_lald hx hb hX.1 hP (hD.1 _ _ dX_1141) rfl hv9 dX1_isOther_29 ?_
        refine lv_lconst hx hb dX1_isOther_30 lc_0 ?_
        refine W.lcmp hx hb dX1_isOther_31 ?_
        refine lv_if_eq (tgt := 87) hx hb dX1_isOther_32 (by decide) (fun c10 => ?_) (fun c10 => ?_)
        · have hf := ifT ((lgc_eq _ _).mp c10) hf
          exact J87  hf H locs hP hS ls (lv_sub hl [0, 1] rfl)
        · have hf := ifF (mt (lgc_eq _ _).mpr c10) hf
          refine lv_aload_n hx hb dX1_isOther_35 rfl (lv_at hl 0 rfl) ?_
          refine gx_X1_44_1000 E hX hD hP dX1_isOther_36 ?_
          refine gx_X1_284_1055 E hX hD hP dX1_isOther_39 ?_
          refine lv_iload_n hx hb dX1_isOther_42 rfl (lv_at hl 1 rfl) ?_
          obtain ⟨v11, hv11, hf⟩ := bdP hf
          refine p_lald hx hb hX.1 hP (hD.1 _ _ dX_1143) rfl hv11 dX1_isOther_43 ?_
          refine lv_lconst hx hb dX1_isOther_44 lc_0 ?_
          refine W.lcmp hx hb dX1_isOther_45 ?_
          refine lv_if_ne (tgt := 52) hx hb dX1_isOther_46 (by decide) (fun c12 => ?_) (fun c12 => ?_)
          · have hf := ifF (mt (lgc_eq _ _).mpr c12) hf
            refine lv_aload_n hx hb dX1_isOther_52 rfl (lv_at hl 0 rfl) ?_
            refine gx_X1_53_1000 E hX hD hP dX1_isOther_53 ?_
            refine lv_aload_n hx hb dX1_isOther_56 rfl (lv_at hl 0 rfl) ?_
            refine gx_X1_33_1000 E hX hD hP dX1_isOther_57 ?_
            refine gx_X1_253_2000 (v := (σ.1 2012)) E hX hD hP rfl dX1_isOther_60 ?_
            refine lv_iload_n hx hb dX1_isOther_63 rfl (lv_at hl 1 rfl) ?_
            obtain ⟨v13, u14, hf⟩ := bdP hf
            refine cx_X1_438_X5_next_TB E hX hD hP hS hA (kxX5_next_TB l D G hD rfl rfl rfl rfl rfl rfl rfl rfl rfl rfl rfl rfl rfl rfl rfl rfl rfl rfl rfl rfl u14) ⟨rfl, rfl⟩ ⟨Nat.le_of_ble_eq_true rfl, Nat.le_of_ble_eq_true rfl⟩ ⟨Nat.zero_le _, Nat.zero_le _⟩ hl.1 (Nat.le_of_ble_eq_true rfl) dX1_isOther_64 (fun H locs hP hS => ?_)
            refine lv_aload_n hx hb dX1_isOther_67 rfl (lv_at hl 0 rfl) ?_
            refine gx_X1_57_1000 E hX hD hP dX1_isOther_68 ?_
            refine lv_aload_n hx hb dX1_isOther_71 rfl (lv_at hl 0 rfl) ?_
            refine gx_X1_33_1000 E hX hD hP dX1_isOther_72 ?_
            refine gx_X1_253_2000 (v := (σ.1 2012)) E hX hD hP rfl dX1_isOther_75 ?_
            refine lv_iload_n hx hb dX1_isOther_78 rfl (lv_at hl 1 rfl) ?_
            obtain ⟨v15, u16, hf⟩ := bdP hf
            refine cx_X1_438_X5_next_TO E hX hD hP hS hA (kxX5_next_TO l D G hD rfl rfl rfl rfl rfl rfl rfl rfl rfl rfl rfl rfl rfl rfl rfl rfl rfl rfl rfl rfl u16) ⟨rfl, rfl⟩ ⟨Nat.le_of_ble_eq_true rfl, Nat.le_of_ble_eq_true rfl⟩ ⟨Nat.zero_le _, Nat.zero_le _⟩ hl.1 (Nat.le_of_ble_eq_true rfl) dX1_isOther_79 (fun H locs hP hS => ?_)
            refine lv_icmp_eq (tgt := 87) hx hb dX1_isOther_82 (by decide) (fun c17 => ?_) (fun c17 => ?_)
            · have hf := ifT c17 hf
              exact J87  hf H locs hP hS ls (lv_sub hl [0, 1] rfl)
            · have hf := ifF c17 hf
              exact KE2_0  (hx2 _ (Option.some.inj hf).symm).symm H locs hP hS ls (lv_sub hl [] rfl)
          · have hf := ifT ((lgc_eq _ _).mp c12) hf
            refine lv_goto (tgt := 87) hx hb dX1_isOther_49 (by decide) ?_
            exact J87  hf H locs hP hS ls (lv_sub hl [0, 1] rfl)
  obtain ⟨ex2, hlp2, hf⟩ := bdP hf
  refine LP2 0 ex2 hlp2 H locs hP hS ls (lv_sub hl [1, 0] rfl) ?_ ?_
  · intro  hex2 H locs hP hS ls hl
    subst ex2
    dsimp only [sE_l, sE_r] at hf
    refine lv_iconst hx hb dX1_isOther_85 ic_1 ?_
    cases hf
    rw [hQ]; exact g_nret hx hb hr hlk hP hS rfl dX1_isOther_86
  · intro  hex2 H locs hP hS ls hl
    subst ex2
    dsimp only [sE_l, sE_r] at hf
    refine lv_iconst hx hb dX1_isOther_93 ic_0 ?_
    cases hf
    rw [hQ]; exact g_nret hx hb hr hlk hP hS rfl dX1_isOther_94
theorem kxX1_isOther (l : Launch) (D : va_G) (G : Nat → ClassId) {dsc : Nat → Option Dsc} {ad : Nat → Nat} {σ : Sto} {nr nw nu : Nat} (hD : XD dsc nr nw nu) {r_ : Int32} {z_TB_by : Int32} (e_zI1062 : σ.1 1062 = z_TB_by) {z_TO_by : Int32} (e_zI1072 : σ.1 1072 = z_TO_by) {z_L_places : Int32} (e_zI2008 : σ.1 2008 = z_L_places) {z_L_from : Int32} (e_zI2012 : σ.1 2012 = z_L_from) {z_L_to : Int32} (e_zI2013 : σ.1 2013 = z_L_to) {z_Ld_size : Int32} (e_zI2027 : σ.1 2027 = z_Ld_size) {z_Lw_size : Int32} (e_zI2032 : σ.1 2032 = z_Lw_size) {z_TB_none : Int64} (e_zL1061 : σ.2.1 1061 = z_TB_none) {z_TO_none : Int64} (e_zL1071 : σ.2.1 1071 = z_TO_none) {a_UNIT : Nat → Int32} (e_aI1170 : σ.2.2.1 1170 = a_UNIT) {a_Lw_data : Nat → Int32} (e_aI2037 : σ.2.2.1 2037 = a_Lw_data) {a_L_seen : Nat → Int32} (e_aI2043 : σ.2.2.1 2043 = a_L_seen) {a_W_likely : Nat → Int64} (e_aL1141 : σ.2.2.2.1 1141 = a_W_likely) {a_O_likely : Nat → Int64} (e_aL1143 : σ.2.2.2.1 1143 = a_O_likely) {a_TB_value : Nat → Int64} (e_aL1150 : σ.2.2.2.1 1150 = a_TB_value) {a_TO_value : Nat → Int64} (e_aL1151 : σ.2.2.2.1 1151 = a_TO_value) {n_r : Nat} (e_nN0 : nr = n_r) {n_w : Nat} (e_nN1 : nw = n_w) {p_road_hours : Nat → Int32} (e_pR2 : (fun k => σ.1 (6000 + 16 * k + 2)) = p_road_hours) {p_road_wait : Nat → Int32} (e_pR5 : (fun k => σ.1 (6000 + 16 * k + 5)) = p_road_wait) {p_road_number : Nat → Int32} (e_pR6 : (fun k => σ.1 (6000 + 16 * k + 6)) = p_road_number) {p_word_place : Nat → Int32} (e_pW0 : (fun k => σ.1 (8000 + 16 * k + 0)) = p_word_place) {p_word_road : Nat → Int32} (e_pW1 : (fun k => σ.1 (8000 + 16 * k + 1)) = p_word_road) {p_word_hours : Nat → Int32} (e_pW2 : (fun k => σ.1 (8000 + 16 * k + 2)) = p_word_hours) {g_grid : Nat → Nat → Int32} (e_gG0 : (fun k => σ.2.2.1 (4000 + 16 * k)) = g_grid) (hf : xo_X1_isOther z_TB_by z_TO_by z_L_places z_L_from z_L_to z_Ld_size z_Lw_size z_TB_none z_TO_none a_UNIT a_Lw_data a_L_seen a_W_likely a_O_likely a_TB_value a_TO_value n_r n_w p_road_hours p_road_wait p_road_number p_word_place p_word_road p_word_hours g_grid = some r_) : CtG l D G dsc ad yX1_isOther (ws_ yX1_isOther cX1_isOther 2 (Option.some Jvm.ClassFile.FieldType.boolean)) rmX1_isOther [.ref (ad 1000)] σ (some (.int r_)) σ := by
  subst e_zI1062
  subst e_zI1072
  subst e_zI2008
  subst e_zI2012
  subst e_zI2013
  subst e_zI2027
  subst e_zI2032
  subst e_zL1061
  subst e_zL1071
  subst e_aI1170
  subst e_aI2037
  subst e_aI2043
  subst e_aL1141
  subst e_aL1143
  subst e_aL1150
  subst e_aL1151
  subst e_nN0
  subst e_nN1
  subst e_pR2
  subst e_pR5
  subst e_pR6
  subst e_pW0
  subst e_pW1
  subst e_pW2
  subst e_gG0
  exact p_ctG (by decide +kernel) (Nat.le_of_ble_eq_true rfl) (fun p e s m below meth c0 ls A E hP hX hA hS hl => wkX1_isOther E hX hD hA hf rfl hP hS hl)
theorem cx_X1_287_X1_isDoubtful {rm : Room} {σ1 : Sto} {x1 : Int32} {r : Int32} (E : EN p s m args meth c0 RX1 cc nL ret) (hX : KX D G ad A s s.heap) (hD : XD dsc nr nw nu) (hP : PIC D clsA G dsc ad σ H) (hS : va_S A s.heap H locs) (hA : ∀ q, PA dsc ad s.heap.size q → A q) (hM : CtG l D G dsc ad yX1_isDoubtful (ws_ yX1_isDoubtful cX1_isDoubtful 2 (Option.some Jvm.ClassFile.FieldType.boolean)) rm [.ref (ad 1000), .int x1] σ (some (.int r)) σ1) (hz : rm.cells = 0 ∧ rm.slots = 0) (hR : rm.frames + 1 ≤ R.frames ∧ 8 + (2 + 11) + rm.locals ≤ R.locals) (hcs : cells ≤ R.cells ∧ slots ≤ R.slots) (hsz : ls.size = nL) (hW : (rest.map fun v => v.category).sum ≤ 8) (hdg : decode cc pc = .ok (.invokevirtual 287, 3)) (kk : ∀ (H1 : Heap) (locs1 : List Loc), PIC D clsA G dsc ad σ1 H1 → va_S A s.heap H1 locs1 → W p l e R s m args below meth c0 H1 locs1 cells slots Q (F0 m (pc + 3) ls (.int r :: rest))) : W p l e R s m args below meth c0 H locs cells slots Q (F0 m pc ls (.int x1 :: .ref (ad 1000) :: rest)) :=
  p_gV (As := [.int x1]) (rest := rest) E.1 hX hP hS hA hM (cwV 1 E.1.2.2.2.2 (lw_V q1240 q1242 qs25 q124 q1243) rfl hz.1 hz.2 (by decide +kernel) hR) (hD.1 _ _ dX_1000) rfl rfl rfl hsz rfl hW hdg hcs kk
theorem cx_X1_227_X4_lay_O {rm : Room} {σ1 : Sto} {x2 : Int32} {x3 : Int32} (E : EN p s m args meth c0 RX1 cc nL ret) (hX : KX D G ad A s s.heap) (hD : XD dsc nr nw nu) (hP : PIC D clsA G dsc ad σ H) (hS : va_S A s.heap H locs) (hA : ∀ q, PA dsc ad s.heap.size q → A q) (hM : CtG l D G dsc ad yX4_lay (ws_ yX4_lay cX4_lay 8 (Option.none : Option Jvm.ClassFile.FieldType)) rm [.ref (ad 1055), .ref (ad 2000), .int x2, .int x3] σ none σ1) (hz : rm.cells = 0 ∧ rm.slots = 0) (hR : rm.frames + 1 ≤ R.frames ∧ 8 + (8 + 11) + rm.locals ≤ R.locals) (hcs : cells ≤ R.cells ∧ slots ≤ R.slots) (hsz : ls.size = nL) (hW : (rest.map fun v => v.category).sum ≤ 8) (hdg : decode cc pc = .ok (.invokevirtual 227, 3)) (kk : ∀ (H1 : Heap) (locs1 : List Loc), PIC D clsA G dsc ad σ1 H1 → va_S A s.heap H1 locs1 → W p l e R s m args below meth c0 H1 locs1 cells slots Q (F0 m (pc + 3) ls (rest))) : W p l e R s m args below meth c0 H locs cells slots Q (F0 m pc ls (.int x3 :: .int x2 :: .ref (ad 2000) :: .ref (ad 1055) :: rest)) :=
  p_gV (As := [.ref (ad 2000), .int x2, .int x3]) (rest := rest) E.1 hX hP hS hA hM (cwV 3 E.1.2.2.2.2 (lw_V q1001 q1002 q1003 q130 q1004) rfl hz.1 hz.2 (by decide +kernel) hR) (hD.1 _ _ dX_1055) rfl rfl rfl hsz rfl hW hdg hcs kk
theorem cx_X1_235_X5_lay_TO_O {rm : Room} {σ1 : Sto} (E : EN p s m args meth c0 RX1 cc nL ret) (hX : KX D G ad A s s.heap) (hD : XD dsc nr nw nu) (hP : PIC D clsA G dsc ad σ H) (hS : va_S A s.heap H locs) (hA : ∀ q, PA dsc ad s.heap.size q → A q) (hM : CtG l D G dsc ad yX5_lay (ws_ yX5_lay cX5_lay 4 (Option.none : Option Jvm.ClassFile.FieldType)) rm [.ref (ad 1070), .ref (ad 1055)] σ none σ1) (hz : rm.cells = 0 ∧ rm.slots = 0) (hR : rm.frames + 1 ≤ R.frames ∧ 8 + (4 + 11) + rm.locals ≤ R.locals) (hcs : cells ≤ R.cells ∧ slots ≤ R.slots) (hsz : ls.size = nL) (hW : (rest.map fun v => v.category).sum ≤ 8) (hdg : decode cc pc = .ok (.invokevirtual 235, 3)) (kk : ∀ (H1 : Heap) (locs1 : List Loc), PIC D clsA G dsc ad σ1 H1 → va_S A s.heap H1 locs1 → W p l e R s m args below meth c0 H1 locs1 cells slots Q (F0 m (pc + 3) ls (rest))) : W p l e R s m args below meth c0 H locs cells slots Q (F0 m pc ls (.ref (ad 1055) :: .ref (ad 1070) :: rest)) :=
  p_gU (As := [.ref (ad 1055)]) (rest := rest) E.1 hX hP hS hA hM (cw_any (owner := "ShutPasses$Table") (x := ⟨"ShutPasses$InMean", "lay", "(LShutPasses$Weights;)V"⟩) (y := yX5_lay) (C := "ShutPasses$InMean") (index := 235) (own := RX1) 1 E.1.2.2.2.2 (lw_meth q1050) rfl hz.1 hz.2 (E.1.2.2.2.2 _ q1044) (E.1.2.2.2.2 _ q1045) (va_Decl.of (E.1.2.2.2.2 _ q1049) (E.1.2.2.2.2 _ q1050)) (E.1.2.2.2.2 _ q1048) (E.1.2.2.2.2 _ q1049) (E.1.2.2.2.2 _ q131) (by decide +kernel) hR) (hD.1 _ _ dX_1070) rfl rfl rfl hsz rfl hW hdg hcs kk
theorem cx_X1_432_X1_isOther {rm : Room} {σ1 : Sto} {r : Int32} (E : EN p s m args meth c0 RX1 cc nL ret) (hX : KX D G ad A s s.heap) (hD : XD dsc nr nw nu) (hP : PIC D clsA G dsc ad σ H) (hS : va_S A s.heap H locs) (hA : ∀ q, PA dsc ad s.heap.size q → A q) (hM : CtG l D G dsc ad yX1_isOther (ws_ yX1_isOther cX1_isOther 2 (Option.some Jvm.ClassFile.FieldType.boolean)) rm [.ref (ad 1000)] σ (some (.int r)) σ1) (hz : rm.cells = 0 ∧ rm.slots = 0) (hR : rm.frames + 1 ≤ R.frames ∧ 8 + (2 + 11) + rm.locals ≤ R.locals) (hcs : cells ≤ R.cells ∧ slots ≤ R.slots) (hsz : ls.size = nL) (hW : (rest.map fun v => v.category).sum ≤ 8) (hdg : decode cc pc = .ok (.invokevirtual 432, 3)) (kk : ∀ (H1 : Heap) (locs1 : List Loc), PIC D clsA G dsc ad σ1 H1 → va_S A s.heap H1 locs1 → W p l e R s m args below meth c0 H1 locs1 cells slots Q (F0 m (pc + 3) ls (.int r :: rest))) : W p l e R s m args below meth c0 H locs cells slots Q (F0 m pc ls (.ref (ad 1000) :: rest)) :=
  p_gV (As := []) (rest := rest) E.1 hX hP hS hA hM (cwV 0 E.1.2.2.2.2 (lw_V q1506 q1508 qs40 q124 q1509) rfl hz.1 hz.2 (by decide +kernel) hR) (hD.1 _ _ dX_1000) rfl rfl rfl hsz rfl hW hdg hcs kk
/-! X1_edge (I)I -/
def sgX1_edge (σ : Sto) (w0 : Int32) (w1 : Int32) (w2 : Int32) (w3 : Int32) (w4 : Int64) (w5 : Int64) (w6 : Nat → Int32) (w7 : Nat → Int32) (w8 : Nat → Int64) (w9 : Nat → Int64) (w10 : Nat → Int64) (w11 : Nat → Int64) (w12 : Nat → Int64) (w13 : Nat → Int64) (w14 : Nat → Int64) : Sto := aL (aL (aL (aL (aL (aL (aL (aI (aI (zL (zL (zI (zI (zI (zI σ 1018 w0) 1062 w1) 1072 w2) 1082 w3) 1052 w4) 1057 w5) 1108 w6) 1162 w7) 1140 w8) 1141 w9) 1142 w10) 1143 w11) 1150 w12) 1151 w13) 1152 w14
theorem sgX1_edge_self (σ : Sto) : sgX1_edge σ (σ.1 1018) (σ.1 1062) (σ.1 1072) (σ.1 1082) (σ.2.1 1052) (σ.2.1 1057) (σ.2.2.1 1108) (σ.2.2.1 1162) (σ.2.2.2.1 1140) (σ.2.2.2.1 1141) (σ.2.2.2.1 1142) (σ.2.2.2.1 1143) (σ.2.2.2.1 1150) (σ.2.2.2.1 1151) (σ.2.2.2.1 1152) = σ := by
  unfold sgX1_edge
  simp only [zI_self, zL_self, aI_self, aL_self]
theorem sgX1_edge_zI1018 {σ : Sto} {w0 : Int32} {w1 : Int32} {w2 : Int32} {w3 : Int32} {w4 : Int64} {w5 : Int64} {w6 : Nat → Int32} {w7 : Nat → Int32} {w8 : Nat → Int64} {w9 : Nat → Int64} {w10 : Nat → Int64} {w11 : Nat → Int64} {w12 : Nat → Int64} {w13 : Nat → Int64} {w14 : Nat → Int64} {g : Int32} : zI (sgX1_edge σ w0 w1 w2 w3 w4 w5 w6 w7 w8 w9 w10 w11 w12 w13 w14) 1018 g = sgX1_edge σ g w1 w2 w3 w4 w5 w6 w7 w8 w9 w10 w11 w12 w13 w14 := (cm_zI_aL _ _ _ _ _).trans (congrArg (fun z => aL z 1152 w14) ((cm_zI_aL _ _ _ _ _).trans (congrArg (fun z => aL z 1151 w13) ((cm_zI_aL _ _ _ _ _).trans (congrArg (fun z => aL z 1150 w12) ((cm_zI_aL _ _ _ _ _).trans (congrArg (fun z => aL z 1143 w11) ((cm_zI_aL _ _ _ _ _).trans (congrArg (fun z => aL z 1142 w10) ((cm_zI_aL _ _ _ _ _).trans (congrArg (fun z => aL z 1141 w9) ((cm_zI_aL _ _ _ _ _).trans (congrArg (fun z => aL z 1140 w8) ((cm_zI_aI _ _ _ _ _).trans (congrArg (fun z => aI z 1162 w7) ((cm_zI_aI _ _ _ _ _).trans (congrArg (fun z => aI z 1108 w6) ((cm_zI_zL _ _ _ _ _).trans (congrArg (fun z => zL z 1057 w5) ((cm_zI_zL _ _ _ _ _).trans (congrArg (fun z => zL z 1052 w4) ((zI_comm _ (by decide) _ _).trans (congrArg (fun z => zI z 1082 w3) ((zI_comm _ (by decide) _ _).trans (congrArg (fun z => zI z 1072 w2) ((zI_comm _ (by decide) _ _).trans (congrArg (fun z => zI z 1062 w1) (zI_zI _ 1018 _ _))))))))))))))))))))))))))))
theorem sgX1_edge_zI1062 {σ : Sto} {w0 : Int32} {w1 : Int32} {w2 : Int32} {w3 : Int32} {w4 : Int64} {w5 : Int64} {w6 : Nat → Int32} {w7 : Nat → Int32} {w8 : Nat → Int64} {w9 : Nat → Int64} {w10 : Nat → Int64} {w11 : Nat → Int64} {w12 : Nat → Int64} {w13 : Nat → Int64} {w14 : Nat → Int64} {g : Int32} : zI (sgX1_edge σ w0 w1 w2 w3 w4 w5 w6 w7 w8 w9 w10 w11 w12 w13 w14) 1062 g = sgX1_edge σ w0 g w2 w3 w4 w5 w6 w7 w8 w9 w10 w11 w12 w13 w14 := (cm_zI_aL _ _ _ _ _).trans (congrArg (fun z => aL z 1152 w14) ((cm_zI_aL _ _ _ _ _).trans (congrArg (fun z => aL z 1151 w13) ((cm_zI_aL _ _ _ _ _).trans (congrArg (fun z => aL z 1150 w12) ((cm_zI_aL _ _ _ _ _).trans (congrArg (fun z => aL z 1143 w11) ((cm_zI_aL _ _ _ _ _).trans (congrArg (fun z => aL z 1142 w10) ((cm_zI_aL _ _ _ _ _).trans (congrArg (fun z => aL z 1141 w9) ((cm_zI_aL _ _ _ _ _).trans (congrArg (fun z => aL z 1140 w8) ((cm_zI_aI _ _ _ _ _).trans (congrArg (fun z => aI z 1162 w7) ((cm_zI_aI _ _ _ _ _).trans (congrArg (fun z => aI z 1108 w6) ((cm_zI_zL _ _ _ _ _).trans (congrArg (fun z => zL z 1057 w5) ((cm_zI_zL _ _ _ _ _).trans (congrArg (fun z => zL z 1052 w4) ((zI_comm _ (by decide) _ _).trans (congrArg (fun z => zI z 1082 w3) ((zI_comm _ (by decide) _ _).trans (congrArg (fun z => zI z 1072 w2) (zI_zI _ 1062 _ _))))))))))))))))))))))))))
theorem sgX1_edge_zI1072 {σ : Sto} {w0 : Int32} {w1 : Int32} {w2 : Int32} {w3 : Int32} {w4 : Int64} {w5 : Int64} {w6 : Nat → Int32} {w7 : Nat → Int32} {w8 : Nat → Int64} {w9 : Nat → Int64} {w10 : Nat → Int64} {w11 : Nat → Int64} {w12 : Nat → Int64} {w13 : Nat → Int64} {w14 : Nat → Int64} {g : Int32} : zI (sgX1_edge σ w0 w1 w2 w3 w4 w5 w6 w7 w8 w9 w10 w11 w12 w13 w14) 1072 g = sgX1_edge σ w0 w1 g w3 w4 w5 w6 w7 w8 w9 w10 w11 w12 w13 w14 := (cm_zI_aL _ _ _ _ _).trans (congrArg (fun z => aL z 1152 w14) ((cm_zI_aL _ _ _ _ _).trans (congrArg (fun z => aL z 1151 w13) ((cm_zI_aL _ _ _ _ _).trans (congrArg (fun z => aL z 1150 w12) ((cm_zI_aL _ _ _ _ _).trans (congrArg (fun z => aL z 1143 w11) ((cm_zI_aL _ _ _ _ _).trans (congrArg (fun z => aL z 1142 w10) ((cm_zI_aL _ _ _ _ _).trans (congrArg (fun z => aL z 1141 w9) ((cm_zI_aL _ _ _ _ _).trans (congrArg (fun z => aL z 1140 w8) ((cm_zI_aI _ _ _ _ _).trans (congrArg (fun z => aI z 1162 w7) ((cm_zI_aI _ _ _ _ _).trans (congrArg (fun z => aI z 1108 w6) ((cm_zI_zL _ _ _ _ _).trans (congrArg (fun z => zL z 1057 w5) ((cm_zI_zL _ _ _ _ _).trans (congrArg (fun z => zL z 1052 w4) ((zI_comm _ (by decide) _ _).trans (congrArg (fun z => zI z 1082 w3) (zI_zI _ 1072 _ _))))))))))))))))))))))))
theorem sgX1_edge_zI1082 {σ : Sto} {w0 : Int32} {w1 : Int32} {w2 : Int32} {w3 : Int32} {w4 : Int64} {w5 : Int64} {w6 : Nat → Int32} {w7 : Nat → Int32} {w8 : Nat → Int64} {w9 : Nat → Int64} {w10 : Nat → Int64} {w11 : Nat → Int64} {w12 : Nat → Int64} {w13 : Nat → Int64} {w14 : Nat → Int64} {g : Int32} : zI (sgX1_edge σ w0 w1 w2 w3 w4 w5 w6 w7 w8 w9 w10 w11 w12 w13 w14) 1082 g = sgX1_edge σ w0 w1 w2 g w4 w5 w6 w7 w8 w9 w10 w11 w12 w13 w14 := (cm_zI_aL _ _ _ _ _).trans (congrArg (fun z => aL z 1152 w14) ((cm_zI_aL _ _ _ _ _).trans (congrArg (fun z => aL z 1151 w13) ((cm_zI_aL _ _ _ _ _).trans (congrArg (fun z => aL z 1150 w12) ((cm_zI_aL _ _ _ _ _).trans (congrArg (fun z => aL z 1143 w11) ((cm_zI_aL _ _ _ _ _).trans (congrArg (fun z => aL z 1142 w10) ((cm_zI_aL _ _ _ _ _).trans (congrArg (fun z => aL z 1141 w9) ((cm_zI_aL _ _ _ _ _).trans (congrArg (fun z => aL z 1140 w8) ((cm_zI_aI _ _ _ _ _).trans (congrArg (fun z => aI z 1162 w7) ((cm_zI_aI _ _ _ _ _).trans (congrArg (fun z => aI z 1108 w6) ((cm_zI_zL _ _ _ _ _).trans (congrArg (fun z => zL z 1057 w5) ((cm_zI_zL _ _ _ _ _).trans (congrArg (fun z => zL z 1052 w4) (zI_zI _ 1082 _ _))))))))))))))))))))))
theorem sgX1_edge_zL1052 {σ : Sto} {w0 : Int32} {w1 : Int32} {w2 : Int32} {w3 : Int32} {w4 : Int64} {w5 : Int64} {w6 : Nat → Int32} {w7 : Nat → Int32} {w8 : Nat → Int64} {w9 : Nat → Int64} {w10 : Nat → Int64} {w11 : Nat → Int64} {w12 : Nat → Int64} {w13 : Nat → Int64} {w14 : Nat → Int64} {g : Int64} : zL (sgX1_edge σ w0 w1 w2 w3 w4 w5 w6 w7 w8 w9 w10 w11 w12 w13 w14) 1052 g = sgX1_edge σ w0 w1 w2 w3 g w5 w6 w7 w8 w9 w10 w11 w12 w13 w14 := (cm_zL_aL _ _ _ _ _).trans (congrArg (fun z => aL z 1152 w14) ((cm_zL_aL _ _ _ _ _).trans (congrArg (fun z => aL z 1151 w13) ((cm_zL_aL _ _ _ _ _).trans (congrArg (fun z => aL z 1150 w12) ((cm_zL_aL _ _ _ _ _).trans (congrArg (fun z => aL z 1143 w11) ((cm_zL_aL _ _ _ _ _).trans (congrArg (fun z => aL z 1142 w10) ((cm_zL_aL _ _ _ _ _).trans (congrArg (fun z => aL z 1141 w9) ((cm_zL_aL _ _ _ _ _).trans (congrArg (fun z => aL z 1140 w8) ((cm_zL_aI _ _ _ _ _).trans (congrArg (fun z => aI z 1162 w7) ((cm_zL_aI _ _ _ _ _).trans (congrArg (fun z => aI z 1108 w6) ((zL_comm _ (by decide) _ _).trans (congrArg (fun z => zL z 1057 w5) (zL_zL _ 1052 _ _))))))))))))))))))))
theorem sgX1_edge_zL1057 {σ : Sto} {w0 : Int32} {w1 : Int32} {w2 : Int32} {w3 : Int32} {w4 : Int64} {w5 : Int64} {w6 : Nat → Int32} {w7 : Nat → Int32} {w8 : Nat → Int64} {w9 : Nat → Int64} {w10 : Nat → Int64} {w11 : Nat → Int64} {w12 : Nat → Int64} {w13 : Nat → Int64} {w14 : Nat → Int64} {g : Int64} : zL (sgX1_edge σ w0 w1 w2 w3 w4 w5 w6 w7 w8 w9 w10 w11 w12 w13 w14) 1057 g = sgX1_edge σ w0 w1 w2 w3 w4 g w6 w7 w8 w9 w10 w11 w12 w13 w14 := (cm_zL_aL _ _ _ _ _).trans (congrArg (fun z => aL z 1152 w14) ((cm_zL_aL _ _ _ _ _).trans (congrArg (fun z => aL z 1151 w13) ((cm_zL_aL _ _ _ _ _).trans (congrArg (fun z => aL z 1150 w12) ((cm_zL_aL _ _ _ _ _).trans (congrArg (fun z => aL z 1143 w11) ((cm_zL_aL _ _ _ _ _).trans (congrArg (fun z => aL z 1142 w10) ((cm_zL_aL _ _ _ _ _).trans (congrArg (fun z => aL z 1141 w9) ((cm_zL_aL _ _ _ _ _).trans (congrArg (fun z => aL z 1140 w8) ((cm_zL_aI _ _ _ _ _).trans (congrArg (fun z => aI z 1162 w7) ((cm_zL_aI _ _ _ _ _).trans (congrArg (fun z => aI z 1108 w6) (zL_zL _ 1057 _ _))))))))))))))))))
theorem sgX1_edge_aI1108 {σ : Sto} {w0 : Int32} {w1 : Int32} {w2 : Int32} {w3 : Int32} {w4 : Int64} {w5 : Int64} {w6 : Nat → Int32} {w7 : Nat → Int32} {w8 : Nat → Int64} {w9 : Nat → Int64} {w10 : Nat → Int64} {w11 : Nat → Int64} {w12 : Nat → Int64} {w13 : Nat → Int64} {w14 : Nat → Int64} {g : Nat → Int32} : aI (sgX1_edge σ w0 w1 w2 w3 w4 w5 w6 w7 w8 w9 w10 w11 w12 w13 w14) 1108 g = sgX1_edge σ w0 w1 w2 w3 w4 w5 g w7 w8 w9 w10 w11 w12 w13 w14 := (cm_aI_aL _ _ _ _ _).trans (congrArg (fun z => aL z 1152 w14) ((cm_aI_aL _ _ _ _ _).trans (congrArg (fun z => aL z 1151 w13) ((cm_aI_aL _ _ _ _ _).trans (congrArg (fun z => aL z 1150 w12) ((cm_aI_aL _ _ _ _ _).trans (congrArg (fun z => aL z 1143 w11) ((cm_aI_aL _ _ _ _ _).trans (congrArg (fun z => aL z 1142 w10) ((cm_aI_aL _ _ _ _ _).trans (congrArg (fun z => aL z 1141 w9) ((cm_aI_aL _ _ _ _ _).trans (congrArg (fun z => aL z 1140 w8) ((aI_comm _ (by decide) _ _).trans (congrArg (fun z => aI z 1162 w7) (aI_aI _ 1108 _ _))))))))))))))))
theorem sgX1_edge_aI1162 {σ : Sto} {w0 : Int32} {w1 : Int32} {w2 : Int32} {w3 : Int32} {w4 : Int64} {w5 : Int64} {w6 : Nat → Int32} {w7 : Nat → Int32} {w8 : Nat → Int64} {w9 : Nat → Int64} {w10 : Nat → Int64} {w11 : Nat → Int64} {w12 : Nat → Int64} {w13 : Nat → Int64} {w14 : Nat → Int64} {g : Nat → Int32} : aI (sgX1_edge σ w0 w1 w2 w3 w4 w5 w6 w7 w8 w9 w10 w11 w12 w13 w14) 1162 g = sgX1_edge σ w0 w1 w2 w3 w4 w5 w6 g w8 w9 w10 w11 w12 w13 w14 := (cm_aI_aL _ _ _ _ _).trans (congrArg (fun z => aL z 1152 w14) ((cm_aI_aL _ _ _ _ _).trans (congrArg (fun z => aL z 1151 w13) ((cm_aI_aL _ _ _ _ _).trans (congrArg (fun z => aL z 1150 w12) ((cm_aI_aL _ _ _ _ _).trans (congrArg (fun z => aL z 1143 w11) ((cm_aI_aL _ _ _ _ _).trans (congrArg (fun z => aL z 1142 w10) ((cm_aI_aL _ _ _ _ _).trans (congrArg (fun z => aL z 1141 w9) ((cm_aI_aL _ _ _ _ _).trans (congrArg (fun z => aL z 1140 w8) (aI_aI _ 1162 _ _))))))))))))))
theorem sgX1_edge_aL1140 {σ : Sto} {w0 : Int32} {w1 : Int32} {w2 : Int32} {w3 : Int32} {w4 : Int64} {w5 : Int64} {w6 : Nat → Int32} {w7 : Nat → Int32} {w8 : Nat → Int64} {w9 : Nat → Int64} {w10 : Nat → Int64} {w11 : Nat → Int64} {w12 : Nat → Int64} {w13 : Nat → Int64} {w14 : Nat → Int64} {g : Nat → Int64} : aL (sgX1_edge σ w0 w1 w2 w3 w4 w5 w6 w7 w8 w9 w10 w11 w12 w13 w14) 1140 g = sgX1_edge σ w0 w1 w2 w3 w4 w5 w6 w7 g w9 w10 w11 w12 w13 w14 := (aL_comm _ (by decide) _ _).trans (congrArg (fun z => aL z 1152 w14) ((aL_comm _ (by decide) _ _).trans (congrArg (fun z => aL z 1151 w13) ((aL_comm _ (by decide) _ _).trans (congrArg (fun z => aL z 1150 w12) ((aL_comm _ (by decide) _ _).trans (congrArg (fun z => aL z 1143 w11) ((aL_comm _ (by decide) _ _).trans (congrArg (fun z => aL z 1142 w10) ((aL_comm _ (by decide) _ _).trans (congrArg (fun z => aL z 1141 w9) (aL_aL _ 1140 _ _))))))))))))
theorem sgX1_edge_aL1141 {σ : Sto} {w0 : Int32} {w1 : Int32} {w2 : Int32} {w3 : Int32} {w4 : Int64} {w5 : Int64} {w6 : Nat → Int32} {w7 : Nat → Int32} {w8 : Nat → Int64} {w9 : Nat → Int64} {w10 : Nat → Int64} {w11 : Nat → Int64} {w12 : Nat → Int64} {w13 : Nat → Int64} {w14 : Nat → Int64} {g : Nat → Int64} : aL (sgX1_edge σ w0 w1 w2 w3 w4 w5 w6 w7 w8 w9 w10 w11 w12 w13 w14) 1141 g = sgX1_edge σ w0 w1 w2 w3 w4 w5 w6 w7 w8 g w10 w11 w12 w13 w14 := (aL_comm _ (by decide) _ _).trans (congrArg (fun z => aL z 1152 w14) ((aL_comm _ (by decide) _ _).trans (congrArg (fun z => aL z 1151 w13) ((aL_comm _ (by decide) _ _).trans (congrArg (fun z => aL z 1150 w12) ((aL_comm _ (by decide) _ _).trans (congrArg (fun z => aL z 1143 w11) ((aL_comm _ (by decide) _ _).trans (congrArg (fun z => aL z 1142 w10) (aL_aL _ 1141 _ _))))))))))
theorem sgX1_edge_aL1142 {σ : Sto} {w0 : Int32} {w1 : Int32} {w2 : Int32} {w3 : Int32} {w4 : Int64} {w5 : Int64} {w6 : Nat → Int32} {w7 : Nat → Int32} {w8 : Nat → Int64} {w9 : Nat → Int64} {w10 : Nat → Int64} {w11 : Nat → Int64} {w12 : Nat → Int64} {w13 : Nat → Int64} {w14 : Nat → Int64} {g : Nat → Int64} : aL (sgX1_edge σ w0 w1 w2 w3 w4 w5 w6 w7 w8 w9 w10 w11 w12 w13 w14) 1142 g = sgX1_edge σ w0 w1 w2 w3 w4 w5 w6 w7 w8 w9 g w11 w12 w13 w14 := (aL_comm _ (by decide) _ _).trans (congrArg (fun z => aL z 1152 w14) ((aL_comm _ (by decide) _ _).trans (congrArg (fun z => aL z 1151 w13) ((aL_comm _ (by decide) _ _).trans (congrArg (fun z => aL z 1150 w12) ((aL_comm _ (by decide) _ _).trans (congrArg (fun z => aL z 1143 w11) (aL_aL _ 1142 _ _))))))))
theorem sgX1_edge_aL1143 {σ : Sto} {w0 : Int32} {w1 : Int32} {w2 : Int32} {w3 : Int32} {w4 : Int64} {w5 : Int64} {w6 : Nat → Int32} {w7 : Nat → Int32} {w8 : Nat → Int64} {w9 : Nat → Int64} {w10 : Nat → Int64} {w11 : Nat → Int64} {w12 : Nat → Int64} {w13 : Nat → Int64} {w14 : Nat → Int64} {g : Nat → Int64} : aL (sgX1_edge σ w0 w1 w2 w3 w4 w5 w6 w7 w8 w9 w10 w11 w12 w13 w14) 1143 g = sgX1_edge σ w0 w1 w2 w3 w4 w5 w6 w7 w8 w9 w10 g w12 w13 w14 := (aL_comm _ (by decide) _ _).trans (congrArg (fun z => aL z 1152 w14) ((aL_comm _ (by decide) _ _).trans (congrArg (fun z => aL z 1151 w13) ((aL_comm _ (by decide) _ _).trans (congrArg (fun z => aL z 1150 w12) (aL_aL _ 1143 _ _))))))
theorem sgX1_edge_aL1150 {σ : Sto} {w0 : Int32} {w1 : Int32} {w2 : Int32} {w3 : Int32} {w4 : Int64} {w5 : Int64} {w6 : Nat → Int32} {w7 : Nat → Int32} {w8 : Nat → Int64} {w9 : Nat → Int64} {w10 : Nat → Int64} {w11 : Nat → Int64} {w12 : Nat → Int64} {w13 : Nat → Int64} {w14 : Nat → Int64} {g : Nat → Int64} : aL (sgX1_edge σ w0 w1 w2 w3 w4 w5 w6 w7 w8 w9 w10 w11 w12 w13 w14) 1150 g = sgX1_edge σ w0 w1 w2 w3 w4 w5 w6 w7 w8 w9 w10 w11 g w13 w14 := (aL_comm _ (by decide) _ _).trans (congrArg (fun z => aL z 1152 w14) ((aL_comm _ (by decide) _ _).trans (congrArg (fun z => aL z 1151 w13) (aL_aL _ 1150 _ _))))
theorem sgX1_edge_aL1151 {σ : Sto} {w0 : Int32} {w1 : Int32} {w2 : Int32} {w3 : Int32} {w4 : Int64} {w5 : Int64} {w6 : Nat → Int32} {w7 : Nat → Int32} {w8 : Nat → Int64} {w9 : Nat → Int64} {w10 : Nat → Int64} {w11 : Nat → Int64} {w12 : Nat → Int64} {w13 : Nat → Int64} {w14 : Nat → Int64} {g : Nat → Int64} : aL (sgX1_edge σ w0 w1 w2 w3 w4 w5 w6 w7 w8 w9 w10 w11 w12 w13 w14) 1151 g = sgX1_edge σ w0 w1 w2 w3 w4 w5 w6 w7 w8 w9 w10 w11 w12 g w14 := (aL_comm _ (by decide) _ _).trans (congrArg (fun z => aL z 1152 w14) (aL_aL _ 1151 _ _))
theorem sgX1_edge_aL1152 {σ : Sto} {w0 : Int32} {w1 : Int32} {w2 : Int32} {w3 : Int32} {w4 : Int64} {w5 : Int64} {w6 : Nat → Int32} {w7 : Nat → Int32} {w8 : Nat → Int64} {w9 : Nat → Int64} {w10 : Nat → Int64} {w11 : Nat → Int64} {w12 : Nat → Int64} {w13 : Nat → Int64} {w14 : Nat → Int64} {g : Nat → Int64} : aL (sgX1_edge σ w0 w1 w2 w3 w4 w5 w6 w7 w8 w9 w10 w11 w12 w13 w14) 1152 g = sgX1_edge σ w0 w1 w2 w3 w4 w5 w6 w7 w8 w9 w10 w11 w12 w13 g := aL_aL _ 1152 _ _
theorem sgX1_edge_rzI1018 {σ : Sto} {w0 : Int32} {w1 : Int32} {w2 : Int32} {w3 : Int32} {w4 : Int64} {w5 : Int64} {w6 : Nat → Int32} {w7 : Nat → Int32} {w8 : Nat → Int64} {w9 : Nat → Int64} {w10 : Nat → Int64} {w11 : Nat → Int64} {w12 : Nat → Int64} {w13 : Nat → Int64} {w14 : Nat → Int64} : (sgX1_edge σ w0 w1 w2 w3 w4 w5 w6 w7 w8 w9 w10 w11 w12 w13 w14).1 1018 = w0 := rfl
theorem sgX1_edge_rzI1062 {σ : Sto} {w0 : Int32} {w1 : Int32} {w2 : Int32} {w3 : Int32} {w4 : Int64} {w5 : Int64} {w6 : Nat → Int32} {w7 : Nat → Int32} {w8 : Nat → Int64} {w9 : Nat → Int64} {w10 : Nat → Int64} {w11 : Nat → Int64} {w12 : Nat → Int64} {w13 : Nat → Int64} {w14 : Nat → Int64} : (sgX1_edge σ w0 w1 w2 w3 w4 w5 w6 w7 w8 w9 w10 w11 w12 w13 w14).1 1062 = w1 := rfl
theorem sgX1_edge_rzI1072 {σ : Sto} {w0 : Int32} {w1 : Int32} {w2 : Int32} {w3 : Int32} {w4 : Int64} {w5 : Int64} {w6 : Nat → Int32} {w7 : Nat → Int32} {w8 : Nat → Int64} {w9 : Nat → Int64} {w10 : Nat → Int64} {w11 : Nat → Int64} {w12 : Nat → Int64} {w13 : Nat → Int64} {w14 : Nat → Int64} : (sgX1_edge σ w0 w1 w2 w3 w4 w5 w6 w7 w8 w9 w10 w11 w12 w13 w14).1 1072 = w2 := rfl
theorem sgX1_edge_rzI1082 {σ : Sto} {w0 : Int32} {w1 : Int32} {w2 : Int32} {w3 : Int32} {w4 : Int64} {w5 : Int64} {w6 : Nat → Int32} {w7 : Nat → Int32} {w8 : Nat → Int64} {w9 : Nat → Int64} {w10 : Nat → Int64} {w11 : Nat → Int64} {w12 : Nat → Int64} {w13 : Nat → Int64} {w14 : Nat → Int64} : (sgX1_edge σ w0 w1 w2 w3 w4 w5 w6 w7 w8 w9 w10 w11 w12 w13 w14).1 1082 = w3 := rfl
theorem sgX1_edge_rzI2008 {σ : Sto} {w0 : Int32} {w1 : Int32} {w2 : Int32} {w3 : Int32} {w4 : Int64} {w5 : Int64} {w6 : Nat → Int32} {w7 : Nat → Int32} {w8 : Nat → Int64} {w9 : Nat → Int64} {w10 : Nat → Int64} {w11 : Nat → Int64} {w12 : Nat → Int64} {w13 : Nat → Int64} {w14 : Nat → Int64} : (sgX1_edge σ w0 w1 w2 w3 w4 w5 w6 w7 w8 w9 w10 w11 w12 w13 w14).1 2008 = σ.1 2008 := rfl
theorem sgX1_edge_rzI2009 {σ : Sto} {w0 : Int32} {w1 : Int32} {w2 : Int32} {w3 : Int32} {w4 : Int64} {w5 : Int64} {w6 : Nat → Int32} {w7 : Nat → Int32} {w8 : Nat → Int64} {w9 : Nat → Int64} {w10 : Nat → Int64} {w11 : Nat → Int64} {w12 : Nat → Int64} {w13 : Nat → Int64} {w14 : Nat → Int64} : (sgX1_edge σ w0 w1 w2 w3 w4 w5 w6 w7 w8 w9 w10 w11 w12 w13 w14).1 2009 = σ.1 2009 := rfl
theorem sgX1_edge_rzI2012 {σ : Sto} {w0 : Int32} {w1 : Int32} {w2 : Int32} {w3 : Int32} {w4 : Int64} {w5 : Int64} {w6 : Nat → Int32} {w7 : Nat → Int32} {w8 : Nat → Int64} {w9 : Nat → Int64} {w10 : Nat → Int64} {w11 : Nat → Int64} {w12 : Nat → Int64} {w13 : Nat → Int64} {w14 : Nat → Int64} : (sgX1_edge σ w0 w1 w2 w3 w4 w5 w6 w7 w8 w9 w10 w11 w12 w13 w14).1 2012 = σ.1 2012 := rfl
theorem sgX1_edge_rzI2013 {σ : Sto} {w0 : Int32} {w1 : Int32} {w2 : Int32} {w3 : Int32} {w4 : Int64} {w5 : Int64} {w6 : Nat → Int32} {w7 : Nat → Int32} {w8 : Nat → Int64} {w9 : Nat → Int64} {w10 : Nat → Int64} {w11 : Nat → Int64} {w12 : Nat → Int64} {w13 : Nat → Int64} {w14 : Nat → Int64} : (sgX1_edge σ w0 w1 w2 w3 w4 w5 w6 w7 w8 w9 w10 w11 w12 w13 w14).1 2013 = σ.1 2013 := rfl
theorem sgX1_edge_rzI2027 {σ : Sto} {w0 : Int32} {w1 : Int32} {w2 : Int32} {w3 : Int32} {w4 : Int64} {w5 : Int64} {w6 : Nat → Int32} {w7 : Nat → Int32} {w8 : Nat → Int64} {w9 : Nat → Int64} {w10 : Nat → Int64} {w11 : Nat → Int64} {w12 : Nat → Int64} {w13 : Nat → Int64} {w14 : Nat → Int64} : (sgX1_edge σ w0 w1 w2 w3 w4 w5 w6 w7 w8 w9 w10 w11 w12 w13 w14).1 2027 = σ.1 2027 := rfl
theorem sgX1_edge_rzI2032 {σ : Sto} {w0 : Int32} {w1 : Int32} {w2 : Int32} {w3 : Int32} {w4 : Int64} {w5 : Int64} {w6 : Nat → Int32} {w7 : Nat → Int32} {w8 : Nat → Int64} {w9 : Nat → Int64} {w10 : Nat → Int64} {w11 : Nat → Int64} {w12 : Nat → Int64} {w13 : Nat → Int64} {w14 : Nat → Int64} : (sgX1_edge σ w0 w1 w2 w3 w4 w5 w6 w7 w8 w9 w10 w11 w12 w13 w14).1 2032 = σ.1 2032 := rfl
theorem sgX1_edge_rzL1052 {σ : Sto} {w0 : Int32} {w1 : Int32} {w2 : Int32} {w3 : Int32} {w4 : Int64} {w5 : Int64} {w6 : Nat → Int32} {w7 : Nat → Int32} {w8 : Nat → Int64} {w9 : Nat → Int64} {w10 : Nat → Int64} {w11 : Nat → Int64} {w12 : Nat → Int64} {w13 : Nat → Int64} {w14 : Nat → Int64} : (sgX1_edge σ w0 w1 w2 w3 w4 w5 w6 w7 w8 w9 w10 w11 w12 w13 w14).2.1 1052 = w4 := rfl
theorem sgX1_edge_rzL1057 {σ : Sto} {w0 : Int32} {w1 : Int32} {w2 : Int32} {w3 : Int32} {w4 : Int64} {w5 : Int64} {w6 : Nat → Int32} {w7 : Nat → Int32} {w8 : Nat → Int64} {w9 : Nat → Int64} {w10 : Nat → Int64} {w11 : Nat → Int64} {w12 : Nat → Int64} {w13 : Nat → Int64} {w14 : Nat → Int64} : (sgX1_edge σ w0 w1 w2 w3 w4 w5 w6 w7 w8 w9 w10 w11 w12 w13 w14).2.1 1057 = w5 := rfl
theorem sgX1_edge_rzL1061 {σ : Sto} {w0 : Int32} {w1 : Int32} {w2 : Int32} {w3 : Int32} {w4 : Int64} {w5 : Int64} {w6 : Nat → Int32} {w7 : Nat → Int32} {w8 : Nat → Int64} {w9 : Nat → Int64} {w10 : Nat → Int64} {w11 : Nat → Int64} {w12 : Nat → Int64} {w13 : Nat → Int64} {w14 : Nat → Int64} : (sgX1_edge σ w0 w1 w2 w3 w4 w5 w6 w7 w8 w9 w10 w11 w12 w13 w14).2.1 1061 = σ.2.1 1061 := rfl
theorem sgX1_edge_rzL1071 {σ : Sto} {w0 : Int32} {w1 : Int32} {w2 : Int32} {w3 : Int32} {w4 : Int64} {w5 : Int64} {w6 : Nat → Int32} {w7 : Nat → Int32} {w8 : Nat → Int64} {w9 : Nat → Int64} {w10 : Nat → Int64} {w11 : Nat → Int64} {w12 : Nat → Int64} {w13 : Nat → Int64} {w14 : Nat → Int64} : (sgX1_edge σ w0 w1 w2 w3 w4 w5 w6 w7 w8 w9 w10 w11 w12 w13 w14).2.1 1071 = σ.2.1 1071 := rfl
theorem sgX1_edge_rzL1081 {σ : Sto} {w0 : Int32} {w1 : Int32} {w2 : Int32} {w3 : Int32} {w4 : Int64} {w5 : Int64} {w6 : Nat → Int32} {w7 : Nat → Int32} {w8 : Nat → Int64} {w9 : Nat → Int64} {w10 : Nat → Int64} {w11 : Nat → Int64} {w12 : Nat → Int64} {w13 : Nat → Int64} {w14 : Nat → Int64} : (sgX1_edge σ w0 w1 w2 w3 w4 w5 w6 w7 w8 w9 w10 w11 w12 w13 w14).2.1 1081 = σ.2.1 1081 := rfl
theorem sgX1_edge_raI1108 {σ : Sto} {w0 : Int32} {w1 : Int32} {w2 : Int32} {w3 : Int32} {w4 : Int64} {w5 : Int64} {w6 : Nat → Int32} {w7 : Nat → Int32} {w8 : Nat → Int64} {w9 : Nat → Int64} {w10 : Nat → Int64} {w11 : Nat → Int64} {w12 : Nat → Int64} {w13 : Nat → Int64} {w14 : Nat → Int64} : (sgX1_edge σ w0 w1 w2 w3 w4 w5 w6 w7 w8 w9 w10 w11 w12 w13 w14).2.2.1 1108 = w6 := rfl
theorem sgX1_edge_raI1162 {σ : Sto} {w0 : Int32} {w1 : Int32} {w2 : Int32} {w3 : Int32} {w4 : Int64} {w5 : Int64} {w6 : Nat → Int32} {w7 : Nat → Int32} {w8 : Nat → Int64} {w9 : Nat → Int64} {w10 : Nat → Int64} {w11 : Nat → Int64} {w12 : Nat → Int64} {w13 : Nat → Int64} {w14 : Nat → Int64} : (sgX1_edge σ w0 w1 w2 w3 w4 w5 w6 w7 w8 w9 w10 w11 w12 w13 w14).2.2.1 1162 = w7 := rfl
theorem sgX1_edge_raI1170 {σ : Sto} {w0 : Int32} {w1 : Int32} {w2 : Int32} {w3 : Int32} {w4 : Int64} {w5 : Int64} {w6 : Nat → Int32} {w7 : Nat → Int32} {w8 : Nat → Int64} {w9 : Nat → Int64} {w10 : Nat → Int64} {w11 : Nat → Int64} {w12 : Nat → Int64} {w13 : Nat → Int64} {w14 : Nat → Int64} : (sgX1_edge σ w0 w1 w2 w3 w4 w5 w6 w7 w8 w9 w10 w11 w12 w13 w14).2.2.1 1170 = σ.2.2.1 1170 := rfl
theorem sgX1_edge_raI2036 {σ : Sto} {w0 : Int32} {w1 : Int32} {w2 : Int32} {w3 : Int32} {w4 : Int64} {w5 : Int64} {w6 : Nat → Int32} {w7 : Nat → Int32} {w8 : Nat → Int64} {w9 : Nat → Int64} {w10 : Nat → Int64} {w11 : Nat → Int64} {w12 : Nat → Int64} {w13 : Nat → Int64} {w14 : Nat → Int64} : (sgX1_edge σ w0 w1 w2 w3 w4 w5 w6 w7 w8 w9 w10 w11 w12 w13 w14).2.2.1 2036 = σ.2.2.1 2036 := rfl
theorem sgX1_edge_raI2037 {σ : Sto} {w0 : Int32} {w1 : Int32} {w2 : Int32} {w3 : Int32} {w4 : Int64} {w5 : Int64} {w6 : Nat → Int32} {w7 : Nat → Int32} {w8 : Nat → Int64} {w9 : Nat → Int64} {w10 : Nat → Int64} {w11 : Nat → Int64} {w12 : Nat → Int64} {w13 : Nat → Int64} {w14 : Nat → Int64} : (sgX1_edge σ w0 w1 w2 w3 w4 w5 w6 w7 w8 w9 w10 w11 w12 w13 w14).2.2.1 2037 = σ.2.2.1 2037 := rfl
theorem sgX1_edge_raI2042 {σ : Sto} {w0 : Int32} {w1 : Int32} {w2 : Int32} {w3 : Int32} {w4 : Int64} {w5 : Int64} {w6 : Nat → Int32} {w7 : Nat → Int32} {w8 : Nat → Int64} {w9 : Nat → Int64} {w10 : Nat → Int64} {w11 : Nat → Int64} {w12 : Nat → Int64} {w13 : Nat → Int64} {w14 : Nat → Int64} : (sgX1_edge σ w0 w1 w2 w3 w4 w5 w6 w7 w8 w9 w10 w11 w12 w13 w14).2.2.1 2042 = σ.2.2.1 2042 := rfl
theorem sgX1_edge_raI2043 {σ : Sto} {w0 : Int32} {w1 : Int32} {w2 : Int32} {w3 : Int32} {w4 : Int64} {w5 : Int64} {w6 : Nat → Int32} {w7 : Nat → Int32} {w8 : Nat → Int64} {w9 : Nat → Int64} {w10 : Nat → Int64} {w11 : Nat → Int64} {w12 : Nat → Int64} {w13 : Nat → Int64} {w14 : Nat → Int64} : (sgX1_edge σ w0 w1 w2 w3 w4 w5 w6 w7 w8 w9 w10 w11 w12 w13 w14).2.2.1 2043 = σ.2.2.1 2043 := rfl
theorem sgX1_edge_raL1140 {σ : Sto} {w0 : Int32} {w1 : Int32} {w2 : Int32} {w3 : Int32} {w4 : Int64} {w5 : Int64} {w6 : Nat → Int32} {w7 : Nat → Int32} {w8 : Nat → Int64} {w9 : Nat → Int64} {w10 : Nat → Int64} {w11 : Nat → Int64} {w12 : Nat → Int64} {w13 : Nat → Int64} {w14 : Nat → Int64} : (sgX1_edge σ w0 w1 w2 w3 w4 w5 w6 w7 w8 w9 w10 w11 w12 w13 w14).2.2.2.1 1140 = w8 := rfl
theorem sgX1_edge_raL1141 {σ : Sto} {w0 : Int32} {w1 : Int32} {w2 : Int32} {w3 : Int32} {w4 : Int64} {w5 : Int64} {w6 : Nat → Int32} {w7 : Nat → Int32} {w8 : Nat → Int64} {w9 : Nat → Int64} {w10 : Nat → Int64} {w11 : Nat → Int64} {w12 : Nat → Int64} {w13 : Nat → Int64} {w14 : Nat → Int64} : (sgX1_edge σ w0 w1 w2 w3 w4 w5 w6 w7 w8 w9 w10 w11 w12 w13 w14).2.2.2.1 1141 = w9 := rfl
theorem sgX1_edge_raL1142 {σ : Sto} {w0 : Int32} {w1 : Int32} {w2 : Int32} {w3 : Int32} {w4 : Int64} {w5 : Int64} {w6 : Nat → Int32} {w7 : Nat → Int32} {w8 : Nat → Int64} {w9 : Nat → Int64} {w10 : Nat → Int64} {w11 : Nat → Int64} {w12 : Nat → Int64} {w13 : Nat → Int64} {w14 : Nat → Int64} : (sgX1_edge σ w0 w1 w2 w3 w4 w5 w6 w7 w8 w9 w10 w11 w12 w13 w14).2.2.2.1 1142 = w10 := rfl
theorem sgX1_edge_raL1143 {σ : Sto} {w0 : Int32} {w1 : Int32} {w2 : Int32} {w3 : Int32} {w4 : Int64} {w5 : Int64} {w6 : Nat → Int32} {w7 : Nat → Int32} {w8 : Nat → Int64} {w9 : Nat → Int64} {w10 : Nat → Int64} {w11 : Nat → Int64} {w12 : Nat → Int64} {w13 : Nat → Int64} {w14 : Nat → Int64} : (sgX1_edge σ w0 w1 w2 w3 w4 w5 w6 w7 w8 w9 w10 w11 w12 w13 w14).2.2.2.1 1143 = w11 := rfl
theorem sgX1_edge_raL1150 {σ : Sto} {w0 : Int32} {w1 : Int32} {w2 : Int32} {w3 : Int32} {w4 : Int64} {w5 : Int64} {w6 : Nat → Int32} {w7 : Nat → Int32} {w8 : Nat → Int64} {w9 : Nat → Int64} {w10 : Nat → Int64} {w11 : Nat → Int64} {w12 : Nat → Int64} {w13 : Nat → Int64} {w14 : Nat → Int64} : (sgX1_edge σ w0 w1 w2 w3 w4 w5 w6 w7 w8 w9 w10 w11 w12 w13 w14).2.2.2.1 1150 = w12 := rfl
theorem sgX1_edge_raL1151 {σ : Sto} {w0 : Int32} {w1 : Int32} {w2 : Int32} {w3 : Int32} {w4 : Int64} {w5 : Int64} {w6 : Nat → Int32} {w7 : Nat → Int32} {w8 : Nat → Int64} {w9 : Nat → Int64} {w10 : Nat → Int64} {w11 : Nat → Int64} {w12 : Nat → Int64} {w13 : Nat → Int64} {w14 : Nat → Int64} : (sgX1_edge σ w0 w1 w2 w3 w4 w5 w6 w7 w8 w9 w10 w11 w12 w13 w14).2.2.2.1 1151 = w13 := rfl
theorem sgX1_edge_raL1152 {σ : Sto} {w0 : Int32} {w1 : Int32} {w2 : Int32} {w3 : Int32} {w4 : Int64} {w5 : Int64} {w6 : Nat → Int32} {w7 : Nat → Int32} {w8 : Nat → Int64} {w9 : Nat → Int64} {w10 : Nat → Int64} {w11 : Nat → Int64} {w12 : Nat → Int64} {w13 : Nat → Int64} {w14 : Nat → Int64} : (sgX1_edge σ w0 w1 w2 w3 w4 w5 w6 w7 w8 w9 w10 w11 w12 w13 w14).2.2.2.1 1152 = w14 := rfl
theorem sgX1_edge_rpR2 {σ : Sto} {w0 : Int32} {w1 : Int32} {w2 : Int32} {w3 : Int32} {w4 : Int64} {w5 : Int64} {w6 : Nat → Int32} {w7 : Nat → Int32} {w8 : Nat → Int64} {w9 : Nat → Int64} {w10 : Nat → Int64} {w11 : Nat → Int64} {w12 : Nat → Int64} {w13 : Nat → Int64} {w14 : Nat → Int64} : (fun k => (sgX1_edge σ w0 w1 w2 w3 w4 w5 w6 w7 w8 w9 w10 w11 w12 w13 w14).1 (6000 + 16 * k + 2)) = (fun k => σ.1 (6000 + 16 * k + 2)) := by
  funext k
  unfold sgX1_edge
  dsimp only [zI, zL, aI, aL]
  repeat rw [if_neg (by omega)]
theorem sgX1_edge_rpR3 {σ : Sto} {w0 : Int32} {w1 : Int32} {w2 : Int32} {w3 : Int32} {w4 : Int64} {w5 : Int64} {w6 : Nat → Int32} {w7 : Nat → Int32} {w8 : Nat → Int64} {w9 : Nat → Int64} {w10 : Nat → Int64} {w11 : Nat → Int64} {w12 : Nat → Int64} {w13 : Nat → Int64} {w14 : Nat → Int64} : (fun k => (sgX1_edge σ w0 w1 w2 w3 w4 w5 w6 w7 w8 w9 w10 w11 w12 w13 w14).1 (6000 + 16 * k + 3)) = (fun k => σ.1 (6000 + 16 * k + 3)) := by
  funext k
  unfold sgX1_edge
  dsimp only [zI, zL, aI, aL]
  repeat rw [if_neg (by omega)]
theorem sgX1_edge_rpR4 {σ : Sto} {w0 : Int32} {w1 : Int32} {w2 : Int32} {w3 : Int32} {w4 : Int64} {w5 : Int64} {w6 : Nat → Int32} {w7 : Nat → Int32} {w8 : Nat → Int64} {w9 : Nat → Int64} {w10 : Nat → Int64} {w11 : Nat → Int64} {w12 : Nat → Int64} {w13 : Nat → Int64} {w14 : Nat → Int64} : (fun k => (sgX1_edge σ w0 w1 w2 w3 w4 w5 w6 w7 w8 w9 w10 w11 w12 w13 w14).1 (6000 + 16 * k + 4)) = (fun k => σ.1 (6000 + 16 * k + 4)) := by
  funext k
  unfold sgX1_edge
  dsimp only [zI, zL, aI, aL]
  repeat rw [if_neg (by omega)]
theorem sgX1_edge_rpR5 {σ : Sto} {w0 : Int32} {w1 : Int32} {w2 : Int32} {w3 : Int32} {w4 : Int64} {w5 : Int64} {w6 : Nat → Int32} {w7 : Nat → Int32} {w8 : Nat → Int64} {w9 : Nat → Int64} {w10 : Nat → Int64} {w11 : Nat → Int64} {w12 : Nat → Int64} {w13 : Nat → Int64} {w14 : Nat → Int64} : (fun k => (sgX1_edge σ w0 w1 w2 w3 w4 w5 w6 w7 w8 w9 w10 w11 w12 w13 w14).1 (6000 + 16 * k + 5)) = (fun k => σ.1 (6000 + 16 * k + 5)) := by
  funext k
  unfold sgX1_edge
  dsimp only [zI, zL, aI, aL]
  repeat rw [if_neg (by omega)]
theorem sgX1_edge_rpR6 {σ : Sto} {w0 : Int32} {w1 : Int32} {w2 : Int32} {w3 : Int32} {w4 : Int64} {w5 : Int64} {w6 : Nat → Int32} {w7 : Nat → Int32} {w8 : Nat → Int64} {w9 : Nat → Int64} {w10 : Nat → Int64} {w11 : Nat → Int64} {w12 : Nat → Int64} {w13 : Nat → Int64} {w14 : Nat → Int64} : (fun k => (sgX1_edge σ w0 w1 w2 w3 w4 w5 w6 w7 w8 w9 w10 w11 w12 w13 w14).1 (6000 + 16 * k + 6)) = (fun k => σ.1 (6000 + 16 * k + 6)) := by
  funext k
  unfold sgX1_edge
  dsimp only [zI, zL, aI, aL]
  repeat rw [if_neg (by omega)]
theorem sgX1_edge_rpW0 {σ : Sto} {w0 : Int32} {w1 : Int32} {w2 : Int32} {w3 : Int32} {w4 : Int64} {w5 : Int64} {w6 : Nat → Int32} {w7 : Nat → Int32} {w8 : Nat → Int64} {w9 : Nat → Int64} {w10 : Nat → Int64} {w11 : Nat → Int64} {w12 : Nat → Int64} {w13 : Nat → Int64} {w14 : Nat → Int64} : (fun k => (sgX1_edge σ w0 w1 w2 w3 w4 w5 w6 w7 w8 w9 w10 w11 w12 w13 w14).1 (8000 + 16 * k + 0)) = (fun k => σ.1 (8000 + 16 * k + 0)) := by
  funext k
  unfold sgX1_edge
  dsimp only [zI, zL, aI, aL]
  repeat rw [if_neg (by omega)]
theorem sgX1_edge_rpW1 {σ : Sto} {w0 : Int32} {w1 : Int32} {w2 : Int32} {w3 : Int32} {w4 : Int64} {w5 : Int64} {w6 : Nat → Int32} {w7 : Nat → Int32} {w8 : Nat → Int64} {w9 : Nat → Int64} {w10 : Nat → Int64} {w11 : Nat → Int64} {w12 : Nat → Int64} {w13 : Nat → Int64} {w14 : Nat → Int64} : (fun k => (sgX1_edge σ w0 w1 w2 w3 w4 w5 w6 w7 w8 w9 w10 w11 w12 w13 w14).1 (8000 + 16 * k + 1)) = (fun k => σ.1 (8000 + 16 * k + 1)) := by
  funext k
  unfold sgX1_edge
  dsimp only [zI, zL, aI, aL]
  repeat rw [if_neg (by omega)]
theorem sgX1_edge_rpW2 {σ : Sto} {w0 : Int32} {w1 : Int32} {w2 : Int32} {w3 : Int32} {w4 : Int64} {w5 : Int64} {w6 : Nat → Int32} {w7 : Nat → Int32} {w8 : Nat → Int64} {w9 : Nat → Int64} {w10 : Nat → Int64} {w11 : Nat → Int64} {w12 : Nat → Int64} {w13 : Nat → Int64} {w14 : Nat → Int64} : (fun k => (sgX1_edge σ w0 w1 w2 w3 w4 w5 w6 w7 w8 w9 w10 w11 w12 w13 w14).1 (8000 + 16 * k + 2)) = (fun k => σ.1 (8000 + 16 * k + 2)) := by
  funext k
  unfold sgX1_edge
  dsimp only [zI, zL, aI, aL]
  repeat rw [if_neg (by omega)]
theorem sgX1_edge_rgG0 {σ : Sto} {w0 : Int32} {w1 : Int32} {w2 : Int32} {w3 : Int32} {w4 : Int64} {w5 : Int64} {w6 : Nat → Int32} {w7 : Nat → Int32} {w8 : Nat → Int64} {w9 : Nat → Int64} {w10 : Nat → Int64} {w11 : Nat → Int64} {w12 : Nat → Int64} {w13 : Nat → Int64} {w14 : Nat → Int64} : (fun k => (sgX1_edge σ w0 w1 w2 w3 w4 w5 w6 w7 w8 w9 w10 w11 w12 w13 w14).2.2.1 (4000 + 16 * k)) = (fun k => σ.2.2.1 (4000 + 16 * k)) := by
  funext k
  unfold sgX1_edge
  dsimp only [zI, zL, aI, aL]
  repeat rw [if_neg (by omega)]
abbrev rmX1_edge : Room := { frames := 49, cells := 0, slots := 0, locals := 1337 }
set_option maxHeartbeats 4000000 in
theorem wkX1_edge {x1 : Int32} {r_ : Int32} {w_zI1018 : Int32} {w_zI1062 : Int32} {w_zI1072 : Int32} {w_zI1082 : Int32} {w_zL1052 : Int64} {w_zL1057 : Int64} {w_aI1108 : Nat → Int32} {w_aI1162 : Nat → Int32} {w_aL1140 : Nat → Int64} {w_aL1141 : Nat → Int64} {w_aL1142 : Nat → Int64} {w_aL1143 : Nat → Int64} {w_aL1150 : Nat → Int64} {w_aL1151 : Nat → Int64} {w_aL1152 : Nat → Int64} (E : EN p s m args meth c0 RX1 cX1_edge 3 (Option.some Jvm.ClassFile.FieldType.int)) (hX : KX D G ad A s s.heap) (hD : XD dsc nr nw nu) (hA : ∀ q, PA dsc ad s.heap.size q → A q) (hf : xo_X1_edge (σ.1 1018) (σ.1 1062) (σ.1 1072) (σ.1 1082) (σ.1 2008) (σ.1 2009) (σ.1 2012) (σ.1 2013) (σ.1 2027) (σ.1 2032) (σ.2.1 1052) (σ.2.1 1057) (σ.2.1 1061) (σ.2.1 1071) (σ.2.1 1081) (σ.2.2.1 1108) (σ.2.2.1 1162) (σ.2.2.1 1170) (σ.2.2.1 2036) (σ.2.2.1 2037) (σ.2.2.1 2042) (σ.2.2.1 2043) (σ.2.2.2.1 1140) (σ.2.2.2.1 1141) (σ.2.2.2.1 1142) (σ.2.2.2.1 1143) (σ.2.2.2.1 1150) (σ.2.2.2.1 1151) (σ.2.2.2.1 1152) nr nw (fun k => σ.1 (6000 + 16 * k + 2)) (fun k => σ.1 (6000 + 16 * k + 3)) (fun k => σ.1 (6000 + 16 * k + 4)) (fun k => σ.1 (6000 + 16 * k + 5)) (fun k => σ.1 (6000 + 16 * k + 6)) (fun k => σ.1 (8000 + 16 * k + 0)) (fun k => σ.1 (8000 + 16 * k + 1)) (fun k => σ.1 (8000 + 16 * k + 2)) (fun k => σ.2.2.1 (4000 + 16 * k)) x1 = some (r_, w_zI1018, w_zI1062, w_zI1072, w_zI1082, w_zL1052, w_zL1057, w_aI1108, w_aI1162, w_aL1140, w_aL1141, w_aL1142, w_aL1143, w_aL1150, w_aL1151, w_aL1152)) (hQ : Q = MQ below (va_G1 (some (.int r_)) (fun t => PIC D clsA G dsc ad (sgX1_edge σ w_zI1018 w_zI1062 w_zI1072 w_zI1082 w_zL1052 w_zL1057 w_aI1108 w_aI1162 w_aL1140 w_aL1141 w_aL1142 w_aL1143 w_aL1150 w_aL1151 w_aL1152) t.heap) A) args s 0 0 A) (hP : PIC D clsA G dsc ad σ H) (hS : va_S A s.heap H locs) (hl : lv_has ls 3 [(0, .ref (ad 1000)), (1, .int x1)]) : W p l e rmX1_edge s m args below meth c0 H locs 0 0 Q (F0 m 0 ls []) := by
  obtain ⟨⟨hx, hb, hml, hown, hts⟩, hr, hlk⟩ := id E
  have hP := hP.to (sgX1_edge_self σ).symm
  unfold xo_X1_edge at hf
  refine lv_aload_n hx hb dX1_edge_0 rfl (lv_at hl 0 rfl) ?_
  refine lv_iload_n hx hb dX1_edge_1 rfl (lv_at hl 1 rfl) ?_
  obtain ⟨v1, u2, hf⟩ := bdP hf
  refine cx_X1_287_X1_isDoubtful E hX hD hP hS hA (kxX1_isDoubtful l D G hD sgX1_edge_rzI2027 u2) ⟨rfl, rfl⟩ ⟨Nat.le_of_ble_eq_true rfl, Nat.le_of_ble_eq_true rfl⟩ ⟨Nat.zero_le _, Nat.zero_le _⟩ hl.1 (Nat.le_of_ble_eq_true rfl) dX1_edge_2 (fun H locs hP hS => ?_)
  refine lv_if_eq (tgt := 38) hx hb dX1_edge_5 (by decide) (fun c3 => ?_) (fun c3 => ?_)
  · have hf := ifT c3 hf
    refine lv_iconst hx hb dX1_edge_38 ic_m1 ?_
    cases hf
    rw [hQ]; exact g_iret hx hb hr hlk hP hS dX1_edge_39
  · have hf := ifF c3 hf
    refine lv_aload_n hx hb dX1_edge_8 rfl (lv_at hl 0 rfl) ?_
    refine gx_X1_33_1000 E hX hD hP dX1_edge_9 ?_
    obtain ⟨v4, u5, hf⟩ := bdP hf
    refine cx_X1_231_X3_isWhole E hX hD hP hS hA (kxX3_isWhole l D G hD sgX1_edge_rzI2012 sgX1_edge_rzI2013 u5) ⟨rfl, rfl⟩ ⟨Nat.le_of_ble_eq_true rfl, Nat.le_of_ble_eq_true rfl⟩ ⟨Nat.zero_le _, Nat.zero_le _⟩ hl.1 (Nat.le_of_ble_eq_true rfl) dX1_edge_12 (fun H locs hP hS => ?_)
    refine lv_if_eq (tgt := 38) hx hb dX1_edge_15 (by decide) (fun c6 => ?_) (fun c6 => ?_)
    · have hf := ifT c6 hf
      refine lv_iconst hx hb dX1_edge_38 ic_m1 ?_
      cases hf
      rw [hQ]; exact g_iret hx hb hr hlk hP hS dX1_edge_39
    · have hf := ifF c6 hf
      refine lv_aload_n hx hb dX1_edge_18 rfl (lv_at hl 0 rfl) ?_
      refine gx_X1_33_1000 E hX hD hP dX1_edge_19 ?_
      refine gx_X1_246_2000 E hX hD hP dX1_edge_22 ?_
      refine lv_iload_n hx hb dX1_edge_25 rfl (lv_at hl 1 rfl) ?_
      obtain ⟨v7, u8, hf⟩ := bdP hf
      refine cx_X1_197_J2_get_Ld E hX hD hP hS hA (kxJ2_get_Ld l D G hD sgX1_edge_rzI2027 sgX1_edge_raI2036 u8) ⟨rfl, rfl⟩ ⟨Nat.le_of_ble_eq_true rfl, Nat.le_of_ble_eq_true rfl⟩ ⟨Nat.zero_le _, Nat.zero_le _⟩ hl.1 (Nat.le_of_ble_eq_true rfl) dX1_edge_26 (fun H locs hP hS => ?_)
      obtain ⟨v9, hv9, hf⟩ := bdP hf
      refine p_castP (ci := 15) (q := (RX18, TX18, 7)) hx hb hX.1 hP hown (hts _ q1505) hv9 hD.2.1 rfl dX1_edge_29 ?_
      obtain ⟨v10, hv10, hf⟩ := bdP hf
      refine gp_X1_212_R E hX hD hP sgX1_edge_rpR3 hv10 dX1_edge_32 ?_
      refine lv_if_ne (tgt := 40) hx hb dX1_edge_35 (by decide) (fun c11 => ?_) (fun c11 => ?_)
      · have hf := ifF c11 hf
        refine lv_aload_n hx hb dX1_edge_40 rfl (lv_at hl 0 rfl) ?_
        obtain ⟨⟨z12, z13, z14, z15, a16, a17, a18, a19, a20, a21⟩, u22, hf⟩ := bdP hf
        dsimp only at hf
        refine cx_X1_276_X1_lay E hX hD hP hS hA (kxX1_lay l D G hD sgX1_edge_rzI1018 sgX1_edge_rzI1062 sgX1_edge_rzI1082 sgX1_edge_rzI2008 sgX1_edge_rzI2009 sgX1_edge_rzI2012 sgX1_edge_rzI2013 sgX1_edge_rzI2027 sgX1_edge_rzI2032 sgX1_edge_rzL1052 sgX1_edge_rzL1061 sgX1_edge_rzL1081 sgX1_edge_raI1108 sgX1_edge_raI1162 sgX1_edge_raI1170 sgX1_edge_raI2036 sgX1_edge_raI2037 sgX1_edge_raI2042 sgX1_edge_raI2043 sgX1_edge_raL1140 sgX1_edge_raL1141 sgX1_edge_raL1150 sgX1_edge_raL1152 rfl rfl sgX1_edge_rpR2 sgX1_edge_rpR3 sgX1_edge_rpR4 sgX1_edge_rpR5 sgX1_edge_rpR6 sgX1_edge_rpW0 sgX1_edge_rpW1 sgX1_edge_rpW2 sgX1_edge_rgG0 u22) ⟨rfl, rfl⟩ ⟨Nat.le_of_ble_eq_true rfl, Nat.le_of_ble_eq_true rfl⟩ ⟨Nat.zero_le _, Nat.zero_le _⟩ hl.1 (Nat.le_of_ble_eq_true rfl) dX1_edge_41 (fun H locs hP hS => ?_)
        rw [sgX1_edge_zI1018, sgX1_edge_zI1062, sgX1_edge_zI1082, sgX1_edge_zL1052, sgX1_edge_aI1108, sgX1_edge_aI1162, sgX1_edge_aL1140, sgX1_edge_aL1141, sgX1_edge_aL1150, sgX1_edge_aL1152] at hP
        refine lv_aload_n hx hb dX1_edge_44 rfl (lv_at hl 0 rfl) ?_
        refine gx_X1_33_1000 E hX hD hP dX1_edge_45 ?_
        refine gx_X1_246_2000 E hX hD hP dX1_edge_48 ?_
        refine lv_iload_n hx hb dX1_edge_51 rfl (lv_at hl 1 rfl) ?_
        obtain ⟨v23, u24, hf⟩ := bdP hf
        refine cx_X1_197_J2_get_Ld E hX hD hP hS hA (kxJ2_get_Ld l D G hD sgX1_edge_rzI2027 sgX1_edge_raI2036 u24) ⟨rfl, rfl⟩ ⟨Nat.le_of_ble_eq_true rfl, Nat.le_of_ble_eq_true rfl⟩ ⟨Nat.zero_le _, Nat.zero_le _⟩ hl.1 (Nat.le_of_ble_eq_true rfl) dX1_edge_52 (fun H locs hP hS => ?_)
        obtain ⟨v25, hv25, hf⟩ := bdP hf
        refine p_castP (ci := 15) (q := (RX18, TX18, 7)) hx hb hX.1 hP hown (hts _ q1505) hv25 hD.2.1 rfl dX1_edge_55 ?_
        obtain ⟨v26, hv26, hf⟩ := bdP hf
        refine gp_X1_212_R E hX hD hP sgX1_edge_rpR3 hv26 dX1_edge_58 ?_
        refine lv_iconst hx hb dX1_edge_61 ic_1 ?_
        refine lv_iadd hx hb dX1_edge_62 ?_
        obtain ⟨v27, hv27, hf⟩ := bdP hf
        refine nm_i (Option.some.inj hv27) ?_
        refine lv_istore_n (lv' := [(2, .int v27), (0, .ref (ad 1000)), (1, .int x1)]) hx hb dX1_edge_63 rfl hl (by decide) rfl (fun ls hl => ?_)
        have LP64 : ∀ (st64 : Int32 × Int32 × Int64 × (Nat → Int64) × (Nat → Int64) × (Nat → Int64)) (ex64 : (Int32 × Int32 × Int64 × (Nat → Int64) × (Nat → Int64) × (Nat → Int64)) ⊕ (Int32 × Int64 × (Nat → Int64) × (Nat → Int64) × (Nat → Int64))), loop (xo_X1_edge_L64 (σ.1 2008) (σ.1 2009) (σ.1 2012) (σ.1 2013) (σ.1 2027) (σ.1 2032) (σ.2.1 1061) (σ.2.1 1071) (σ.2.2.1 1170) (σ.2.2.1 2036) (σ.2.2.1 2037) (σ.2.2.1 2042) (σ.2.2.1 2043) nr nw (fun k => σ.1 (6000 + 16 * k + 2)) (fun k => σ.1 (6000 + 16 * k + 3)) (fun k => σ.1 (6000 + 16 * k + 4)) (fun k => σ.1 (6000 + 16 * k + 5)) (fun k => σ.1 (6000 + 16 * k + 6)) (fun k => σ.1 (8000 + 16 * k + 0)) (fun k => σ.1 (8000 + 16 * k + 1)) (fun k => σ.1 (8000 + 16 * k + 2)) (fun k => σ.2.2.1 (4000 + 16 * k)) x1 z13 a19 a20) st64 = some ex64 → ∀ (H : Heap) (locs : List Loc), PIC D clsA G dsc ad (sgX1_edge σ z12 z13 (st64.2.1) z14 z15 (st64.2.2.1) a16 a17 a18 a19 (st64.2.2.2.1) (st64.2.2.2.2.1) a20 (st64.2.2.2.2.2) a21) H → va_S A s.heap H locs → ∀ (ls : Array Slot), lv_has ls 3 [(0, .ref (ad 1000)), (1, .int x1), (2, .int (st64.1))] → (∀ (y46 : Int32) (z47 : Int32) (z48 : Int64) (a49 : Nat → Int64) (a50 : Nat → Int64) (a51 : Nat → Int64), ex64 = (.inl ((y46, z47, z48, a49, a50, a51))) → ∀ (H : Heap) (locs : List Loc), PIC D clsA G dsc ad (sgX1_edge σ z12 z13 z47 z14 z15 z48 a16 a17 a18 a19 a49 a50 a20 a51 a21) H → va_S A s.heap H locs → ∀ (ls : Array Slot), lv_has ls 3 [(2, .int y46)] → W p l e rmX1_edge s m args below meth c0 H locs 0 0 Q (F0 m 101 ls [])) → (∀ (z52 : Int32) (z53 : Int64) (a54 : Nat → Int64) (a55 : Nat → Int64) (a56 : Nat → Int64), ex64 = (.inr (z52, z53, a54, a55, a56)) → ∀ (H : Heap) (locs : List Loc), PIC D clsA G dsc ad (sgX1_edge σ z12 z13 z52 z14 z15 z53 a16 a17 a18 a19 a54 a55 a20 a56 a21) H → va_S A s.heap H locs → ∀ (ls : Array Slot), lv_has ls 3 [] → W p l e rmX1_edge s m args below meth c0 H locs 0 0 Q (F0 m 109 ls [])) → W p l e rmX1_edge s m args below meth c0 H locs 0 0 Q (F0 m 64 ls []) := by
          refine loop_P (fun st64 ex64 o64 hf ih64 hx64 => ?_)
          obtain ⟨y28, z29, z30, a31, a32, a33⟩ := st64
          intro H locs (hP : PIC D clsA G dsc ad (sgX1_edge σ z12 z13 z29 z14 z15 z30 a16 a17 a18 a19 a31 a32 a20 a33 a21) H) hS ls (hl : lv_has ls 3 [(0, .ref (ad 1000)), (1, .int x1), (2, .int y28)]) KE64_0 KE64_1
          dsimp only [xo_X1_edge_L64] at hf
          refine lv_iload_n hx hb dX1_edge_64 rfl (lv_at hl 2 rfl) ?_
          refine lv_bipush hx hb dX1_edge_65 bp_10 ?_
          refine lv_icmp_gt (tgt := 109) hx hb dX1_edge_67 (by decide) (fun c34 => ?_) (fun c34 => ?_)
          · have hf := ifT c34 hf
            exact KE64_1 _ _ _ _ _ (hx64 _ (Option.some.inj hf).symm).symm H locs hP hS ls (lv_sub hl [] rfl)
          · have hf := ifF c34 hf
            refine lv_aload_n hx hb dX1_edge_70 rfl (lv_at hl 0 rfl) ?_
            refine gx_X1_44_1000 E hX hD hP dX1_edge_71 ?_
            refine lv_aload_n hx hb dX1_edge_74 rfl (lv_at hl 0 rfl) ?_
            refine gx_X1_33_1000 E hX hD hP dX1_edge_75 ?_
            refine lv_iload_n hx hb dX1_edge_78 rfl (lv_at hl 1 rfl) ?_
            refine lv_iload_n hx hb dX1_edge_79 rfl (lv_at hl 2 rfl) ?_
            obtain ⟨⟨z35, a36, a37⟩, u38, hf⟩ := bdP hf
            dsimp only at hf
            refine cx_X1_227_X4_lay_O E hX hD hP hS hA (kxX4_lay_O l D G hD sgX1_edge_rzI2009 sgX1_edge_rzI2027 sgX1_edge_rzL1057 sgX1_edge_raI1170 sgX1_edge_raI2036 sgX1_edge_raI2042 sgX1_edge_raL1142 sgX1_edge_raL1143 rfl sgX1_edge_rpR3 sgX1_edge_rpR4 u38) ⟨rfl, rfl⟩ ⟨Nat.le_of_ble_eq_true rfl, Nat.le_of_ble_eq_true rfl⟩ ⟨Nat.zero_le _, Nat.zero_le _⟩ hl.1 (Nat.le_of_ble_eq_true rfl) dX1_edge_80 (fun H locs hP hS => ?_)
            rw [sgX1_edge_zL1057, sgX1_edge_aL1142, sgX1_edge_aL1143] at hP
            refine lv_aload_n hx hb dX1_edge_83 rfl (lv_at hl 0 rfl) ?_
            refine gx_X1_57_1000 E hX hD hP dX1_edge_84 ?_
            refine lv_aload_n hx hb dX1_edge_87 rfl (lv_at hl 0 rfl) ?_
            refine gx_X1_44_1000 E hX hD hP dX1_edge_88 ?_
            obtain ⟨⟨z39, a40⟩, u41, hf⟩ := bdP hf
            dsimp only at hf
            refine cx_X1_235_X5_lay_TO_O E hX hD hP hS hA (kxX5_lay_TO_O l D G hD sgX1_edge_rzI1072 sgX1_edge_rzI2008 sgX1_edge_rzI2013 sgX1_edge_rzI2027 sgX1_edge_rzI2032 sgX1_edge_rzL1071 sgX1_edge_raI1170 sgX1_edge_raI2037 sgX1_edge_raI2043 sgX1_edge_raL1143 sgX1_edge_raL1151 rfl rfl sgX1_edge_rpR2 sgX1_edge_rpR5 sgX1_edge_rpR6 sgX1_edge_rpW0 sgX1_edge_rpW1 sgX1_edge_rpW2 sgX1_edge_rgG0 u41) ⟨rfl, rfl⟩ ⟨Nat.le_of_ble_eq_true rfl, Nat.le_of_ble_eq_true rfl⟩ ⟨Nat.zero_le _, Nat.zero_le _⟩ hl.1 (Nat.le_of_ble_eq_true rfl) dX1_edge_91 (fun H locs hP hS => ?_)
            rw [sgX1_edge_zI1072, sgX1_edge_aL1151] at hP
            refine lv_aload_n hx hb dX1_edge_94 rfl (lv_at hl 0 rfl) ?_
            obtain ⟨v42, u43, hf⟩ := bdP hf
            refine cx_X1_432_X1_isOther E hX hD hP hS hA (kxX1_isOther l D G hD sgX1_edge_rzI1062 sgX1_edge_rzI1072 sgX1_edge_rzI2008 sgX1_edge_rzI2012 sgX1_edge_rzI2013 sgX1_edge_rzI2027 sgX1_edge_rzI2032 sgX1_edge_rzL1061 sgX1_edge_rzL1071 sgX1_edge_raI1170 sgX1_edge_raI2037 sgX1_edge_raI2043 sgX1_edge_raL1141 sgX1_edge_raL1143 sgX1_edge_raL1150 sgX1_edge_raL1151 rfl rfl sgX1_edge_rpR2 sgX1_edge_rpR5 sgX1_edge_rpR6 sgX1_edge_rpW0 sgX1_edge_rpW1 sgX1_edge_rpW2 sgX1_edge_rgG0 u43) ⟨rfl, rfl⟩ ⟨Nat.le_of_ble_eq_true rfl, Nat.le_of_ble_eq_true rfl⟩ ⟨Nat.zero_le _, Nat.zero_le _⟩ hl.1 (Nat.le_of_ble_eq_true rfl) dX1_edge_95 (fun H locs hP hS => ?_)
            refine lv_if_eq (tgt := 103) hx hb dX1_edge_98 (by decide) (fun c44 => ?_) (fun c44 => ?_)
            · have hf := ifT c44 hf
              obtain ⟨v45, hv45, hf⟩ := bdP hf
              refine lv_iinc (v := v45) (lv' := [(2, .int v45), (0, .ref (ad 1000)), (1, .int x1)]) hx hb dX1_edge_103 hl (k := 2) rfl (Option.some.inj hv45) (by decide) rfl (fun ls hl => ?_)
              refine lv_goto (tgt := 64) hx hb dX1_edge_106 (by decide) ?_
              exact ih64 _ (Option.some.inj hf).symm H locs hP hS ls (lv_sub hl [1, 2, 0] rfl) KE64_0 KE64_1
            · have hf := ifF c44 hf
              exact KE64_0 _ _ _ _ _ _ (hx64 _ (Option.some.inj hf).symm).symm H locs hP hS ls (lv_sub hl [2] rfl)
        obtain ⟨ex64, hlp64, hf⟩ := bdP hf
        refine LP64 (v27, (σ.1 1072), (σ.2.1 1057), (σ.2.2.2.1 1142), (σ.2.2.2.1 1143), (σ.2.2.2.1 1151)) ex64 hlp64 H locs hP hS ls (lv_sub hl [1, 2, 0] rfl) ?_ ?_
        · intro y46 z47 z48 a49 a50 a51 hex64 H locs hP hS ls hl
          subst ex64
          dsimp only [sE_l, sE_r] at hf
          refine lv_iload_n hx hb dX1_edge_101 rfl (lv_at hl 0 rfl) ?_
          cases hf
          rw [hQ]; exact g_iret hx hb hr hlk hP hS dX1_edge_102
        · intro z52 z53 a54 a55 a56 hex64 H locs hP hS ls hl
          subst ex64
          dsimp only [sE_l, sE_r] at hf
          refine lv_bipush hx hb dX1_edge_109 bp_11 ?_
          cases hf
          rw [hQ]; exact g_iret hx hb hr hlk hP hS dX1_edge_111
      · have hf := ifT c11 hf
        refine lv_iconst hx hb dX1_edge_38 ic_m1 ?_
        cases hf
        rw [hQ]; exact g_iret hx hb hr hlk hP hS dX1_edge_39
theorem kxX1_edge (l : Launch) (D : va_G) (G : Nat → ClassId) {dsc : Nat → Option Dsc} {ad : Nat → Nat} {σ : Sto} {nr nw nu : Nat} (hD : XD dsc nr nw nu) {x1 : Int32} {r_ : Int32} {w_zI1018 : Int32} {w_zI1062 : Int32} {w_zI1072 : Int32} {w_zI1082 : Int32} {w_zL1052 : Int64} {w_zL1057 : Int64} {w_aI1108 : Nat → Int32} {w_aI1162 : Nat → Int32} {w_aL1140 : Nat → Int64} {w_aL1141 : Nat → Int64} {w_aL1142 : Nat → Int64} {w_aL1143 : Nat → Int64} {w_aL1150 : Nat → Int64} {w_aL1151 : Nat → Int64} {w_aL1152 : Nat → Int64} {z_X_isLaid : Int32} (e_zI1018 : σ.1 1018 = z_X_isLaid) {z_TB_by : Int32} (e_zI1062 : σ.1 1062 = z_TB_by) {z_TO_by : Int32} (e_zI1072 : σ.1 1072 = z_TO_by) {z_TS_by : Int32} (e_zI1082 : σ.1 1082 = z_TS_by) {z_L_places : Int32} (e_zI2008 : σ.1 2008 = z_L_places) {z_L_causes : Int32} (e_zI2009 : σ.1 2009 = z_L_causes) {z_L_from : Int32} (e_zI2012 : σ.1 2012 = z_L_from) {z_L_to : Int32} (e_zI2013 : σ.1 2013 = z_L_to) {z_Ld_size : Int32} (e_zI2027 : σ.1 2027 = z_Ld_size) {z_Lw_size : Int32} (e_zI2032 : σ.1 2032 = z_Lw_size) {z_W_all : Int64} (e_zL1052 : σ.2.1 1052 = z_W_all) {z_O_all : Int64} (e_zL1057 : σ.2.1 1057 = z_O_all) {z_TB_none : Int64} (e_zL1061 : σ.2.1 1061 = z_TB_none) {z_TO_none : Int64} (e_zL1071 : σ.2.1 1071 = z_TO_none) {z_TS_none : Int64} (e_zL1081 : σ.2.1 1081 = z_TS_none) {a_X_knowing : Nat → Int32} (e_aI1108 : σ.2.2.1 1108 = a_X_knowing) {a_p3_far : Nat → Int32} (e_aI1162 : σ.2.2.1 1162 = a_p3_far) {a_UNIT : Nat → Int32} (e_aI1170 : σ.2.2.1 1170 = a_UNIT) {a_Ld_data : Nat → Int32} (e_aI2036 : σ.2.2.1 2036 = a_Ld_data) {a_Lw_data : Nat → Int32} (e_aI2037 : σ.2.2.1 2037 = a_Lw_data) {a_L_comes : Nat → Int32} (e_aI2042 : σ.2.2.1 2042 = a_L_comes) {a_L_seen : Nat → Int32} (e_aI2043 : σ.2.2.1 2043 = a_L_seen) {a_W_world : Nat → Int64} (e_aL1140 : σ.2.2.2.1 1140 = a_W_world) {a_W_likely : Nat → Int64} (e_aL1141 : σ.2.2.2.1 1141 = a_W_likely) {a_O_world : Nat → Int64} (e_aL1142 : σ.2.2.2.1 1142 = a_O_world) {a_O_likely : Nat → Int64} (e_aL1143 : σ.2.2.2.1 1143 = a_O_likely) {a_TB_value : Nat → Int64} (e_aL1150 : σ.2.2.2.1 1150 = a_TB_value) {a_TO_value : Nat → Int64} (e_aL1151 : σ.2.2.2.1 1151 = a_TO_value) {a_TS_value : Nat → Int64} (e_aL1152 : σ.2.2.2.1 1152 = a_TS_value) {n_r : Nat} (e_nN0 : nr = n_r) {n_w : Nat} (e_nN1 : nw = n_w) {p_road_hours : Nat → Int32} (e_pR2 : (fun k => σ.1 (6000 + 16 * k + 2)) = p_road_hours) {p_road_doubt : Nat → Int32} (e_pR3 : (fun k => σ.1 (6000 + 16 * k + 3)) = p_road_doubt) {p_road_cause : Nat → Int32} (e_pR4 : (fun k => σ.1 (6000 + 16 * k + 4)) = p_road_cause) {p_road_wait : Nat → Int32} (e_pR5 : (fun k => σ.1 (6000 + 16 * k + 5)) = p_road_wait) {p_road_number : Nat → Int32} (e_pR6 : (fun k => σ.1 (6000 + 16 * k + 6)) = p_road_number) {p_word_place : Nat → Int32} (e_pW0 : (fun k => σ.1 (8000 + 16 * k + 0)) = p_word_place) {p_word_road : Nat → Int32} (e_pW1 : (fun k => σ.1 (8000 + 16 * k + 1)) = p_word_road) {p_word_hours : Nat → Int32} (e_pW2 : (fun k => σ.1 (8000 + 16 * k + 2)) = p_word_hours) {g_grid : Nat → Nat → Int32} (e_gG0 : (fun k => σ.2.2.1 (4000 + 16 * k)) = g_grid) (hf : xo_X1_edge z_X_isLaid z_TB_by z_TO_by z_TS_by z_L_places z_L_causes z_L_from z_L_to z_Ld_size z_Lw_size z_W_all z_O_all z_TB_none z_TO_none z_TS_none a_X_knowing a_p3_far a_UNIT a_Ld_data a_Lw_data a_L_comes a_L_seen a_W_world a_W_likely a_O_world a_O_likely a_TB_value a_TO_value a_TS_value n_r n_w p_road_hours p_road_doubt p_road_cause p_road_wait p_road_number p_word_place p_word_road p_word_hours g_grid x1 = some (r_, w_zI1018, w_zI1062, w_zI1072, w_zI1082, w_zL1052, w_zL1057, w_aI1108, w_aI1162, w_aL1140, w_aL1141, w_aL1142, w_aL1143, w_aL1150, w_aL1151, w_aL1152)) : CtG l D G dsc ad yX1_edge (ws_ yX1_edge cX1_edge 3 (Option.some Jvm.ClassFile.FieldType.int)) rmX1_edge [.ref (ad 1000), .int x1] σ (some (.int r_)) (aL (aL (aL (aL (aL (aL (aL (aI (aI (zL (zL (zI (zI (zI (zI σ 1018 w_zI1018) 1062 w_zI1062) 1072 w_zI1072) 1082 w_zI1082) 1052 w_zL1052) 1057 w_zL1057) 1108 w_aI1108) 1162 w_aI1162) 1140 w_aL1140) 1141 w_aL1141) 1142 w_aL1142) 1143 w_aL1143) 1150 w_aL1150) 1151 w_aL1151) 1152 w_aL1152) := by
  subst e_zI1018
  subst e_zI1062
  subst e_zI1072
  subst e_zI1082
  subst e_zI2008
  subst e_zI2009
  subst e_zI2012
  subst e_zI2013
  subst e_zI2027
  subst e_zI2032
  subst e_zL1052
  subst e_zL1057
  subst e_zL1061
  subst e_zL1071
  subst e_zL1081
  subst e_aI1108
  subst e_aI1162
  subst e_aI1170
  subst e_aI2036
  subst e_aI2037
  subst e_aI2042
  subst e_aI2043
  subst e_aL1140
  subst e_aL1141
  subst e_aL1142
  subst e_aL1143
  subst e_aL1150
  subst e_aL1151
  subst e_aL1152
  subst e_nN0
  subst e_nN1
  subst e_pR2
  subst e_pR3
  subst e_pR4
  subst e_pR5
  subst e_pR6
  subst e_pW0
  subst e_pW1
  subst e_pW2
  subst e_gG0
  exact p_ctG (by decide +kernel) (Nat.le_of_ble_eq_true rfl) (fun p e s m below meth c0 ls A E hP hX hA hS hl => wkX1_edge E hX hD hA hf rfl hP hS hl)
theorem gx_X1_17_1000 {v : Int32} (E : EN p s m args meth c0 RX1 cc nL ret) (hX : KX D G ad A s s.heap) (hD : XD dsc nr nw nu) (hP : PIC D clsA G dsc ad σ H) (hv : σ.1 1003 = v) (hdg : decode cc pc = .ok (.getfield 17, 3)) (kk : W p l e R s m args below meth c0 H locs cells slots Q (F0 m (pc + 3) ls (.int v :: rest))) : W p l e R s m args below meth c0 H locs cells slots Q (F0 m pc ls (.ref (ad 1000) :: rest)) :=
  p_get E.1.1 E.1.2.1 E.1.2.2.2.2 in_X1 E.1.2.2.2.1 hX.1 hP (hD.1 _ _ dX_1000) rfl 3 (by decide) (E.1.2.2.2.2 _ q506) (fun _ h => h) rfl (congrArg Value.int hv) hdg kk
theorem gx_X1_147_1000 {v : Int32} (E : EN p s m args meth c0 RX1 cc nL ret) (hX : KX D G ad A s s.heap) (hD : XD dsc nr nw nu) (hP : PIC D clsA G dsc ad σ H) (hv : σ.1 1002 = v) (hdg : decode cc pc = .ok (.getfield 147, 3)) (kk : W p l e R s m args below meth c0 H locs cells slots Q (F0 m (pc + 3) ls (.int v :: rest))) : W p l e R s m args below meth c0 H locs cells slots Q (F0 m pc ls (.ref (ad 1000) :: rest)) :=
  p_get E.1.1 E.1.2.1 E.1.2.2.2.2 in_X1 E.1.2.2.2.1 hX.1 hP (hD.1 _ _ dX_1000) rfl 2 (by decide) (E.1.2.2.2.2 _ q505) (fun _ h => h) rfl (congrArg Value.int hv) hdg kk
/-! X1_fault (I)I -/
abbrev rmX1_fault : Room := { frames := 0, cells := 0, slots := 0, locals := 0 }
set_option maxHeartbeats 4000000 in
theorem wkX1_fault {x1 : Int32} {r_ : Int32} (E : EN p s m args meth c0 RX1 cX1_fault 2 (Option.some Jvm.ClassFile.FieldType.int)) (hX : KX D G ad A s s.heap) (hD : XD dsc nr nw nu) (hA : ∀ q, PA dsc ad s.heap.size q → A q) (hf : xo_X1_fault (σ.1 1002) (σ.1 1003) x1 = some r_) (hQ : Q = MQ below (va_G1 (some (.int r_)) (fun t => PIC D clsA G dsc ad σ t.heap) A) args s 0 0 A) (hP : PIC D clsA G dsc ad σ H) (hS : va_S A s.heap H locs) (hl : lv_has ls 2 [(0, .ref (ad 1000)), (1, .int x1)]) : W p l e rmX1_fault s m args below meth c0 H locs 0 0 Q (F0 m 0 ls []) := by
  obtain ⟨⟨hx, hb, hml, hown, hts⟩, hr, hlk⟩ := id E
  unfold xo_X1_fault at hf
  refine lv_iload_n hx hb dX1_fault_0 rfl (lv_at hl 1 rfl) ?_
  refine lv_if_ne (tgt := 11) hx hb dX1_fault_1 (by decide) (fun c1 => ?_) (fun c1 => ?_)
  · have hf := ifF c1 hf
    refine lv_iload_n hx hb dX1_fault_11 rfl (lv_at hl 1 rfl) ?_
    refine lv_iconst hx hb dX1_fault_12 ic_1 ?_
    refine lv_icmp_ne (tgt := 23) hx hb dX1_fault_13 (by decide) (fun c2 => ?_) (fun c2 => ?_)
    · have hf := ifF c2 hf
      refine lv_iconst hx hb dX1_fault_23 ic_m1 ?_
      cases hf
      rw [hQ]; exact g_iret hx hb hr hlk hP hS dX1_fault_24
    · have hf := ifT c2 hf
      refine lv_aload_n hx hb dX1_fault_16 rfl (lv_at hl 0 rfl) ?_
      refine gx_X1_17_1000 (v := (σ.1 1003)) E hX hD hP rfl dX1_fault_17 ?_
      refine lv_goto (tgt := 24) hx hb dX1_fault_20 (by decide) ?_
      cases hf
      rw [hQ]; exact g_iret hx hb hr hlk hP hS dX1_fault_24
  · have hf := ifT c1 hf
    refine lv_aload_n hx hb dX1_fault_4 rfl (lv_at hl 0 rfl) ?_
    refine gx_X1_147_1000 (v := (σ.1 1002)) E hX hD hP rfl dX1_fault_5 ?_
    refine lv_goto (tgt := 24) hx hb dX1_fault_8 (by decide) ?_
    cases hf
    rw [hQ]; exact g_iret hx hb hr hlk hP hS dX1_fault_24
theorem kxX1_fault (l : Launch) (D : va_G) (G : Nat → ClassId) {dsc : Nat → Option Dsc} {ad : Nat → Nat} {σ : Sto} {nr nw nu : Nat} (hD : XD dsc nr nw nu) {x1 : Int32} {r_ : Int32} {z_X_faultKind : Int32} (e_zI1002 : σ.1 1002 = z_X_faultKind) {z_X_faultPlace : Int32} (e_zI1003 : σ.1 1003 = z_X_faultPlace) (hf : xo_X1_fault z_X_faultKind z_X_faultPlace x1 = some r_) : CtG l D G dsc ad yX1_fault (ws_ yX1_fault cX1_fault 2 (Option.some Jvm.ClassFile.FieldType.int)) rmX1_fault [.ref (ad 1000), .int x1] σ (some (.int r_)) σ := by
  subst e_zI1002
  subst e_zI1003
  exact p_ctG (by decide +kernel) (Nat.le_of_ble_eq_true rfl) (fun p e s m below meth c0 ls A E hP hX hA hS hl => wkX1_fault E hX hD hA hf rfl hP hS hl)
theorem gx_X1_13_1000 (E : EN p s m args meth c0 RX1 cc nL ret) (hX : KX D G ad A s s.heap) (hD : XD dsc nr nw nu) (hP : PIC D clsA G dsc ad σ H) (hdg : decode cc pc = .ok (.getfield 13, 3)) (kk : W p l e R s m args below meth c0 H locs cells slots Q (F0 m (pc + 3) ls (.ref (ad 1100) :: rest))) : W p l e R s m args below meth c0 H locs cells slots Q (F0 m pc ls (.ref (ad 1000) :: rest)) :=
  p_get E.1.1 E.1.2.1 E.1.2.2.2.2 in_X1 E.1.2.2.2.1 hX.1 hP (hD.1 _ _ dX_1000) rfl 0 (by decide) (E.1.2.2.2.2 _ q503) (fun _ h => h) rfl rfl hdg kk
theorem gx_X1_137_1000 {v : Int32} (E : EN p s m args meth c0 RX1 cc nL ret) (hX : KX D G ad A s s.heap) (hD : XD dsc nr nw nu) (hP : PIC D clsA G dsc ad σ H) (hv : σ.1 1001 = v) (hdg : decode cc pc = .ok (.getfield 137, 3)) (kk : W p l e R s m args below meth c0 H locs cells slots Q (F0 m (pc + 3) ls (.int v :: rest))) : W p l e R s m args below meth c0 H locs cells slots Q (F0 m pc ls (.ref (ad 1000) :: rest)) :=
  p_get E.1.1 E.1.2.1 E.1.2.2.2.2 in_X1 E.1.2.2.2.1 hX.1 hP (hD.1 _ _ dX_1000) rfl 1 (by decide) (E.1.2.2.2.2 _ q504) (fun _ h => h) rfl (congrArg Value.int hv) hdg kk
theorem ux_X1_137_1000 {v : Int32} {σ1 : Sto} (E : EN p s m args meth c0 RX1 cc nL ret) (hX : KX D G ad A s s.heap) (hD : XD dsc nr nw nu) (hP : PIC D clsA G dsc ad σ H) (hS : va_S A s.heap H locs) (hA : A (ad 1000)) (hσ : zI σ 1001 v = σ1) (hdg : decode cc pc = .ok (.putfield 137, 3)) (kk : ∀ (H1 : Heap) (locs1 : List Loc), PIC D clsA G dsc ad σ1 H1 → va_S A s.heap H1 locs1 → W p l e R s m args below meth c0 H1 locs1 cells slots Q (F0 m (pc + 3) ls rest)) : W p l e R s m args below meth c0 H locs cells slots Q (F0 m pc ls (.int v :: .ref (ad 1000) :: rest)) :=
  p_puti2 E.1.1 E.1.2.1 E.1.2.2.2.2 in_X1 tyX1 tyX1_ok E.1.2.2.2.1 hX.1 hP hS hA (hD.1 _ _ dX_1000) rfl 1 (by decide) (by decide +kernel) (E.1.2.2.2.2 _ q504) (fun _ h => h) rfl rfl rfl rfl rfl hσ hdg kk
/-! X1_put (I)V -/
def sgX1_put (σ : Sto) (w0 : Int32) (w1 : Nat → Int32) : Sto := aI (zI σ 1001 w0) 1100 w1
theorem sgX1_put_self (σ : Sto) : sgX1_put σ (σ.1 1001) (σ.2.2.1 1100) = σ := by
  unfold sgX1_put
  simp only [zI_self, zL_self, aI_self, aL_self]
theorem sgX1_put_zI1001 {σ : Sto} {w0 : Int32} {w1 : Nat → Int32} {g : Int32} : zI (sgX1_put σ w0 w1) 1001 g = sgX1_put σ g w1 := (cm_zI_aI _ _ _ _ _).trans (congrArg (fun z => aI z 1100 w1) (zI_zI _ 1001 _ _))
theorem sgX1_put_aI1100 {σ : Sto} {w0 : Int32} {w1 : Nat → Int32} {g : Nat → Int32} : aI (sgX1_put σ w0 w1) 1100 g = sgX1_put σ w0 g := aI_aI _ 1100 _ _
theorem sgX1_put_rzI1001 {σ : Sto} {w0 : Int32} {w1 : Nat → Int32} : (sgX1_put σ w0 w1).1 1001 = w0 := rfl
theorem sgX1_put_raI1100 {σ : Sto} {w0 : Int32} {w1 : Nat → Int32} : (sgX1_put σ w0 w1).2.2.1 1100 = w1 := rfl
abbrev rmX1_put : Room := { frames := 0, cells := 0, slots := 0, locals := 0 }
set_option maxHeartbeats 4000000 in
theorem wkX1_put {x1 : Int32} {w_zI1001 : Int32} {w_aI1100 : Nat → Int32} (E : EN p s m args meth c0 RX1 cX1_put 3 (Option.none : Option Jvm.ClassFile.FieldType)) (hX : KX D G ad A s s.heap) (hD : XD dsc nr nw nu) (hA : ∀ q, PA dsc ad s.heap.size q → A q) (hf : xo_X1_put (σ.1 1001) (σ.2.2.1 1100) x1 = some (w_zI1001, w_aI1100)) (hQ : Q = MQ below (va_G1 none (fun t => PIC D clsA G dsc ad (sgX1_put σ w_zI1001 w_aI1100) t.heap) A) args s 0 0 A) (hP : PIC D clsA G dsc ad σ H) (hS : va_S A s.heap H locs) (hl : lv_has ls 3 [(0, .ref (ad 1000)), (1, .int x1)]) : W p l e rmX1_put s m args below meth c0 H locs 0 0 Q (F0 m 0 ls []) := by
  obtain ⟨⟨hx, hb, hml, hown, hts⟩, hr, hlk⟩ := id E
  have hP := hP.to (sgX1_put_self σ).symm
  unfold xo_X1_put at hf
  refine lv_bipush hx hb dX1_put_0 bp_24 ?_
  refine lv_istore_n (lv' := [(2, .int 24), (0, .ref (ad 1000)), (1, .int x1)]) hx hb dX1_put_2 rfl hl (by decide) rfl (fun ls hl => ?_)
  have LP3 : ∀ (st3 : Int32 × Int32 × (Nat → Int32)) (ex3 : (Int32 × (Nat → Int32))), loop (xo_X1_put_L3 x1) st3 = some ex3 → ∀ (H : Heap) (locs : List Loc), PIC D clsA G dsc ad (sgX1_put σ (st3.2.1) (st3.2.2)) H → va_S A s.heap H locs → ∀ (ls : Array Slot), lv_has ls 3 [(0, .ref (ad 1000)), (1, .int x1), (2, .int (st3.1))] → (∀ (z8 : Int32) (a9 : Nat → Int32), ex3 = (z8, a9) → ∀ (H : Heap) (locs : List Loc), PIC D clsA G dsc ad (sgX1_put σ z8 a9) H → va_S A s.heap H locs → ∀ (ls : Array Slot), lv_has ls 3 [] → W p l e rmX1_put s m args below meth c0 H locs 0 0 Q (F0 m 33 ls [])) → W p l e rmX1_put s m args below meth c0 H locs 0 0 Q (F0 m 3 ls []) := by
    refine loop_P (fun st3 ex3 o3 hf ih3 hx3 => ?_)
    obtain ⟨y1, z2, a3⟩ := st3
    intro H locs (hP : PIC D clsA G dsc ad (sgX1_put σ z2 a3) H) hS ls (hl : lv_has ls 3 [(0, .ref (ad 1000)), (1, .int x1), (2, .int y1)]) KE3_0
    dsimp only [xo_X1_put_L3] at hf
    refine lv_iload_n hx hb dX1_put_3 rfl (lv_at hl 2 rfl) ?_
    refine lv_if_lt (tgt := 33) hx hb dX1_put_4 (by decide) (fun c4 => ?_) (fun c4 => ?_)
    · have hf := ifT c4 hf
      exact KE3_0 _ _ (hx3 _ (Option.some.inj hf).symm).symm H locs hP hS ls (lv_sub hl [] rfl)
    · have hf := ifF c4 hf
      refine lv_aload_n hx hb dX1_put_7 rfl (lv_at hl 0 rfl) ?_
      refine gx_X1_13_1000 E hX hD hP dX1_put_8 ?_
      refine lv_aload_n hx hb dX1_put_11 rfl (lv_at hl 0 rfl) ?_
      refine lv_dup hx hb dX1_put_12 rfl ?_
      refine gx_X1_137_1000 (v := z2) E hX hD hP sgX1_put_rzI1001 dX1_put_13 ?_
      refine lv_dup_x1 hx hb dX1_put_16 rfl rfl ?_
      refine lv_iconst hx hb dX1_put_17 ic_1 ?_
      refine lv_iadd hx hb dX1_put_18 ?_
      obtain ⟨v5, hv5, hf⟩ := bdP hf
      refine nm_i (Option.some.inj hv5) ?_
      refine ux_X1_137_1000 E hX hD hP hS (hA _ (PA_c (hD.1 _ _ dX_1000))) sgX1_put_zI1001 dX1_put_19 (fun H locs hP hS => ?_)
      refine lv_iload_n hx hb dX1_put_22 rfl (lv_at hl 1 rfl) ?_
      refine lv_iload_n hx hb dX1_put_23 rfl (lv_at hl 2 rfl) ?_
      refine lv_ishr hx hb dX1_put_24 ?_
      refine lv_i2b hx hb dX1_put_25 rfl ?_
      obtain ⟨a6, ha6, hf⟩ := bdP hf
      refine p_bast hx hb hX.1 hP hS (hA _ (PA_c (hD.1 _ _ dX_1100))) (hD.1 _ _ dX_1100) sgX1_put_raI1100 ha6 sgX1_put_aI1100 dX1_put_26 (fun H locs hP hS => ?_)
      obtain ⟨v7, hv7, hf⟩ := bdP hf
      refine lv_iinc (v := v7) (lv' := [(2, .int v7), (0, .ref (ad 1000)), (1, .int x1)]) hx hb dX1_put_27 hl (k := 2) rfl (Option.some.inj hv7) (by decide) rfl (fun ls hl => ?_)
      refine lv_goto (tgt := 3) hx hb dX1_put_30 (by decide) ?_
      exact ih3 _ (Option.some.inj hf).symm H locs hP hS ls (lv_sub hl [1, 2, 0] rfl) KE3_0
  obtain ⟨ex3, hlp3, hf⟩ := bdP hf
  refine LP3 (24, (σ.1 1001), (σ.2.2.1 1100)) ex3 hlp3 H locs hP hS ls (lv_sub hl [1, 2, 0] rfl) ?_
  intro z8 a9 hex3 H locs hP hS ls hl
  subst ex3
  dsimp only at hf
  cases hf
  rw [hQ]; exact g_vret hx hb hr hlk hP hS dX1_put_33
theorem kxX1_put (l : Launch) (D : va_G) (G : Nat → ClassId) {dsc : Nat → Option Dsc} {ad : Nat → Nat} {σ : Sto} {nr nw nu : Nat} (hD : XD dsc nr nw nu) {x1 : Int32} {w_zI1001 : Int32} {w_aI1100 : Nat → Int32} {z_X_taped : Int32} (e_zI1001 : σ.1 1001 = z_X_taped) {a_X_tape : Nat → Int32} (e_aI1100 : σ.2.2.1 1100 = a_X_tape) (hf : xo_X1_put z_X_taped a_X_tape x1 = some (w_zI1001, w_aI1100)) : CtG l D G dsc ad yX1_put (ws_ yX1_put cX1_put 3 (Option.none : Option Jvm.ClassFile.FieldType)) rmX1_put [.ref (ad 1000), .int x1] σ none (aI (zI σ 1001 w_zI1001) 1100 w_aI1100) := by
  subst e_zI1001
  subst e_aI1100
  exact p_ctG (by decide +kernel) (Nat.le_of_ble_eq_true rfl) (fun p e s m below meth c0 ls A E hP hX hA hS hl => wkX1_put E hX hD hA hf rfl hP hS hl)
theorem cx_X1_140_X1_put {rm : Room} {σ1 : Sto} {x1 : Int32} (E : EN p s m args meth c0 RX1 cc nL ret) (hX : KX D G ad A s s.heap) (hD : XD dsc nr nw nu) (hP : PIC D clsA G dsc ad σ H) (hS : va_S A s.heap H locs) (hA : ∀ q, PA dsc ad s.heap.size q → A q) (hM : CtG l D G dsc ad yX1_put (ws_ yX1_put cX1_put 3 (Option.none : Option Jvm.ClassFile.FieldType)) rm [.ref (ad 1000), .int x1] σ none σ1) (hz : rm.cells = 0 ∧ rm.slots = 0) (hR : rm.frames + 1 ≤ R.frames ∧ 8 + (3 + 11) + rm.locals ≤ R.locals) (hcs : cells ≤ R.cells ∧ slots ≤ R.slots) (hsz : ls.size = nL) (hW : (rest.map fun v => v.category).sum ≤ 8) (hdg : decode cc pc = .ok (.invokevirtual 140, 3)) (kk : ∀ (H1 : Heap) (locs1 : List Loc), PIC D clsA G dsc ad σ1 H1 → va_S A s.heap H1 locs1 → W p l e R s m args below meth c0 H1 locs1 cells slots Q (F0 m (pc + 3) ls (rest))) : W p l e R s m args below meth c0 H locs cells slots Q (F0 m pc ls (.int x1 :: .ref (ad 1000) :: rest)) :=
  p_gV (As := [.int x1]) (rest := rest) E.1 hX hP hS hA hM (cwV 1 E.1.2.2.2.2 (lw_V q616 q618 qs0 q124 q619) rfl hz.1 hz.2 (by decide +kernel) hR) (hD.1 _ _ dX_1000) rfl rfl rfl hsz rfl hW hdg hcs kk
/-! X1_feed (IIIII)I -/
def sgX1_feed (σ : Sto) (w0 : Int32) (w1 : Nat → Int32) : Sto := aI (zI σ 1001 w0) 1100 w1
theorem sgX1_feed_self (σ : Sto) : sgX1_feed σ (σ.1 1001) (σ.2.2.1 1100) = σ := by
  unfold sgX1_feed
  simp only [zI_self, zL_self, aI_self, aL_self]
theorem sgX1_feed_zI1001 {σ : Sto} {w0 : Int32} {w1 : Nat → Int32} {g : Int32} : zI (sgX1_feed σ w0 w1) 1001 g = sgX1_feed σ g w1 := (cm_zI_aI _ _ _ _ _).trans (congrArg (fun z => aI z 1100 w1) (zI_zI _ 1001 _ _))
theorem sgX1_feed_aI1100 {σ : Sto} {w0 : Int32} {w1 : Nat → Int32} {g : Nat → Int32} : aI (sgX1_feed σ w0 w1) 1100 g = sgX1_feed σ w0 g := aI_aI _ 1100 _ _
theorem sgX1_feed_rzI1001 {σ : Sto} {w0 : Int32} {w1 : Nat → Int32} : (sgX1_feed σ w0 w1).1 1001 = w0 := rfl
theorem sgX1_feed_raI1100 {σ : Sto} {w0 : Int32} {w1 : Nat → Int32} : (sgX1_feed σ w0 w1).2.2.1 1100 = w1 := rfl
abbrev rmX1_feed : Room := { frames := 1, cells := 0, slots := 0, locals := 22 }
set_option maxHeartbeats 4000000 in
theorem wkX1_feed {x1 : Int32} {x2 : Int32} {x3 : Int32} {x4 : Int32} {x5 : Int32} {r_ : Int32} {w_zI1001 : Int32} {w_aI1100 : Nat → Int32} (E : EN p s m args meth c0 RX1 cX1_feed 6 (Option.some Jvm.ClassFile.FieldType.int)) (hX : KX D G ad A s s.heap) (hD : XD dsc nr nw nu) (hA : ∀ q, PA dsc ad s.heap.size q → A q) (hf : xo_X1_feed (σ.1 1001) (σ.2.2.1 1100) x1 x2 x3 x4 x5 = some (r_, w_zI1001, w_aI1100)) (hQ : Q = MQ below (va_G1 (some (.int r_)) (fun t => PIC D clsA G dsc ad (sgX1_feed σ w_zI1001 w_aI1100) t.heap) A) args s 0 0 A) (hP : PIC D clsA G dsc ad σ H) (hS : va_S A s.heap H locs) (hl : lv_has ls 6 [(0, .ref (ad 1000)), (1, .int x1), (2, .int x2), (3, .int x3), (4, .int x4), (5, .int x5)]) : W p l e rmX1_feed s m args below meth c0 H locs 0 0 Q (F0 m 0 ls []) := by
  obtain ⟨⟨hx, hb, hml, hown, hts⟩, hr, hlk⟩ := id E
  have hP := hP.to (sgX1_feed_self σ).symm
  unfold xo_X1_feed at hf
  refine lv_aload_n hx hb dX1_feed_0 rfl (lv_at hl 0 rfl) ?_
  refine gx_X1_137_1000 (v := (σ.1 1001)) E hX hD hP sgX1_feed_rzI1001 dX1_feed_1 ?_
  refine lv_bipush hx hb dX1_feed_4 bp_20 ?_
  refine lv_iadd hx hb dX1_feed_6 ?_
  refine lv_sipush hx hb dX1_feed_7 sp_600 ?_
  refine lv_icmp_le (tgt := 15) hx hb dX1_feed_10 (by decide) (fun c1 => ?_) (fun c1 => ?_)
  · have hf := ifT c1 hf
    refine lv_aload_n hx hb dX1_feed_15 rfl (lv_at hl 0 rfl) ?_
    refine lv_iload_n hx hb dX1_feed_16 rfl (lv_at hl 1 rfl) ?_
    obtain ⟨⟨z2, a3⟩, u4, hf⟩ := bdP hf
    dsimp only at hf
    refine cx_X1_140_X1_put E hX hD hP hS hA (kxX1_put l D G hD sgX1_feed_rzI1001 sgX1_feed_raI1100 u4) ⟨rfl, rfl⟩ ⟨Nat.le_of_ble_eq_true rfl, Nat.le_of_ble_eq_true rfl⟩ ⟨Nat.zero_le _, Nat.zero_le _⟩ hl.1 (Nat.le_of_ble_eq_true rfl) dX1_feed_17 (fun H locs hP hS => ?_)
    rw [sgX1_feed_zI1001, sgX1_feed_aI1100] at hP
    refine lv_aload_n hx hb dX1_feed_20 rfl (lv_at hl 0 rfl) ?_
    refine lv_iload_n hx hb dX1_feed_21 rfl (lv_at hl 2 rfl) ?_
    obtain ⟨⟨z5, a6⟩, u7, hf⟩ := bdP hf
    dsimp only at hf
    refine cx_X1_140_X1_put E hX hD hP hS hA (kxX1_put l D G hD sgX1_feed_rzI1001 sgX1_feed_raI1100 u7) ⟨rfl, rfl⟩ ⟨Nat.le_of_ble_eq_true rfl, Nat.le_of_ble_eq_true rfl⟩ ⟨Nat.zero_le _, Nat.zero_le _⟩ hl.1 (Nat.le_of_ble_eq_true rfl) dX1_feed_22 (fun H locs hP hS => ?_)
    rw [sgX1_feed_zI1001, sgX1_feed_aI1100] at hP
    refine lv_aload_n hx hb dX1_feed_25 rfl (lv_at hl 0 rfl) ?_
    refine lv_iload_n hx hb dX1_feed_26 rfl (lv_at hl 3 rfl) ?_
    obtain ⟨⟨z8, a9⟩, u10, hf⟩ := bdP hf
    dsimp only at hf
    refine cx_X1_140_X1_put E hX hD hP hS hA (kxX1_put l D G hD sgX1_feed_rzI1001 sgX1_feed_raI1100 u10) ⟨rfl, rfl⟩ ⟨Nat.le_of_ble_eq_true rfl, Nat.le_of_ble_eq_true rfl⟩ ⟨Nat.zero_le _, Nat.zero_le _⟩ hl.1 (Nat.le_of_ble_eq_true rfl) dX1_feed_27 (fun H locs hP hS => ?_)
    rw [sgX1_feed_zI1001, sgX1_feed_aI1100] at hP
    refine lv_aload_n hx hb dX1_feed_30 rfl (lv_at hl 0 rfl) ?_
    refine lv_iload hx hb dX1_feed_31 (lv_at hl 4 rfl) ?_
    obtain ⟨⟨z11, a12⟩, u13, hf⟩ := bdP hf
    dsimp only at hf
    refine cx_X1_140_X1_put E hX hD hP hS hA (kxX1_put l D G hD sgX1_feed_rzI1001 sgX1_feed_raI1100 u13) ⟨rfl, rfl⟩ ⟨Nat.le_of_ble_eq_true rfl, Nat.le_of_ble_eq_true rfl⟩ ⟨Nat.zero_le _, Nat.zero_le _⟩ hl.1 (Nat.le_of_ble_eq_true rfl) dX1_feed_33 (fun H locs hP hS => ?_)
    rw [sgX1_feed_zI1001, sgX1_feed_aI1100] at hP
    refine lv_aload_n hx hb dX1_feed_36 rfl (lv_at hl 0 rfl) ?_
    refine lv_iload hx hb dX1_feed_37 (lv_at hl 5 rfl) ?_
    obtain ⟨⟨z14, a15⟩, u16, hf⟩ := bdP hf
    dsimp only at hf
    refine cx_X1_140_X1_put E hX hD hP hS hA (kxX1_put l D G hD sgX1_feed_rzI1001 sgX1_feed_raI1100 u16) ⟨rfl, rfl⟩ ⟨Nat.le_of_ble_eq_true rfl, Nat.le_of_ble_eq_true rfl⟩ ⟨Nat.zero_le _, Nat.zero_le _⟩ hl.1 (Nat.le_of_ble_eq_true rfl) dX1_feed_39 (fun H locs hP hS => ?_)
    rw [sgX1_feed_zI1001, sgX1_feed_aI1100] at hP
    refine lv_aload_n hx hb dX1_feed_42 rfl (lv_at hl 0 rfl) ?_
    refine gx_X1_137_1000 (v := z14) E hX hD hP sgX1_feed_rzI1001 dX1_feed_43 ?_
    cases hf
    rw [hQ]; exact g_iret hx hb hr hlk hP hS dX1_feed_46
  · have hf := ifF c1 hf
    refine lv_iconst hx hb dX1_feed_13 ic_m1 ?_
    cases hf
    rw [hQ]; exact g_iret hx hb hr hlk hP hS dX1_feed_14
theorem kxX1_feed (l : Launch) (D : va_G) (G : Nat → ClassId) {dsc : Nat → Option Dsc} {ad : Nat → Nat} {σ : Sto} {nr nw nu : Nat} (hD : XD dsc nr nw nu) {x1 : Int32} {x2 : Int32} {x3 : Int32} {x4 : Int32} {x5 : Int32} {r_ : Int32} {w_zI1001 : Int32} {w_aI1100 : Nat → Int32} {z_X_taped : Int32} (e_zI1001 : σ.1 1001 = z_X_taped) {a_X_tape : Nat → Int32} (e_aI1100 : σ.2.2.1 1100 = a_X_tape) (hf : xo_X1_feed z_X_taped a_X_tape x1 x2 x3 x4 x5 = some (r_, w_zI1001, w_aI1100)) : CtG l D G dsc ad yX1_feed (ws_ yX1_feed cX1_feed 6 (Option.some Jvm.ClassFile.FieldType.int)) rmX1_feed [.ref (ad 1000), .int x1, .int x2, .int x3, .int x4, .int x5] σ (some (.int r_)) (aI (zI σ 1001 w_zI1001) 1100 w_aI1100) := by
  subst e_zI1001
  subst e_aI1100
  exact p_ctG (by decide +kernel) (Nat.le_of_ble_eq_true rfl) (fun p e s m below meth c0 ls A E hP hX hA hS hl => wkX1_feed E hX hD hA hf rfl hP hS hl)
/-! X1_isPlace (I)Z -/
abbrev rmX1_isPlace : Room := { frames := 1, cells := 0, slots := 0, locals := 22 }
set_option maxHeartbeats 4000000 in
theorem wkX1_isPlace {x1 : Int32} {r_ : Int32} (E : EN p s m args meth c0 RX1 cX1_isPlace 2 (Option.some Jvm.ClassFile.FieldType.boolean)) (hX : KX D G ad A s s.heap) (hD : XD dsc nr nw nu) (hA : ∀ q, PA dsc ad s.heap.size q → A q) (hf : xo_X1_isPlace (σ.1 2008) x1 = some r_) (hQ : Q = MQ below (va_G1 (some (.int r_)) (fun t => PIC D clsA G dsc ad σ t.heap) A) args s 0 0 A) (hP : PIC D clsA G dsc ad σ H) (hS : va_S A s.heap H locs) (hl : lv_has ls 2 [(0, .ref (ad 1000)), (1, .int x1)]) : W p l e rmX1_isPlace s m args below meth c0 H locs 0 0 Q (F0 m 0 ls []) := by
  obtain ⟨⟨hx, hb, hml, hown, hts⟩, hr, hlk⟩ := id E
  unfold xo_X1_isPlace at hf
  refine lv_iload_n hx hb dX1_isPlace_0 rfl (lv_at hl 1 rfl) ?_
  refine lv_iconst hx hb dX1_isPlace_1 ic_0 ?_
  refine lv_aload_n hx hb dX1_isPlace_2 rfl (lv_at hl 0 rfl) ?_
  refine gx_X1_33_1000 E hX hD hP dX1_isPlace_3 ?_
  refine gx_X1_268_2000 (v := (σ.1 2008)) E hX hD hP rfl dX1_isPlace_6 ?_
  refine lv_iconst hx hb dX1_isPlace_9 ic_1 ?_
  refine lv_isub hx hb dX1_isPlace_10 ?_
  obtain ⟨v1, u2, hf⟩ := bdP hf
  refine cx_X1_143_X1_in E hX hD hP hS hA (kxX1_in l D G hD u2) ⟨rfl, rfl⟩ ⟨Nat.le_of_ble_eq_true rfl, Nat.le_of_ble_eq_true rfl⟩ ⟨Nat.zero_le _, Nat.zero_le _⟩ hl.1 (Nat.le_of_ble_eq_true rfl) dX1_isPlace_11 (fun H locs hP hS => ?_)
  obtain ⟨v3, hv3, hf⟩ := bdP hf
  obtain ⟨hv3a, hv3b⟩ := retZ_some hv3
  subst hv3a
  cases hf
  rw [hQ]; exact g_nret hx hb hr hlk hP hS hv3b dX1_isPlace_14
theorem kxX1_isPlace (l : Launch) (D : va_G) (G : Nat → ClassId) {dsc : Nat → Option Dsc} {ad : Nat → Nat} {σ : Sto} {nr nw nu : Nat} (hD : XD dsc nr nw nu) {x1 : Int32} {r_ : Int32} {z_L_places : Int32} (e_zI2008 : σ.1 2008 = z_L_places) (hf : xo_X1_isPlace z_L_places x1 = some r_) : CtG l D G dsc ad yX1_isPlace (ws_ yX1_isPlace cX1_isPlace 2 (Option.some Jvm.ClassFile.FieldType.boolean)) rmX1_isPlace [.ref (ad 1000), .int x1] σ (some (.int r_)) σ := by
  subst e_zI2008
  exact p_ctG (by decide +kernel) (Nat.le_of_ble_eq_true rfl) (fun p e s m below meth c0 ls A E hP hX hA hS hl => wkX1_isPlace E hX hD hA hf rfl hP hS hl)
/-! X1_isKnown (I)Z -/
abbrev rmX1_isKnown : Room := { frames := 2, cells := 0, slots := 0, locals := 40 }
set_option maxHeartbeats 4000000 in
theorem wkX1_isKnown {x1 : Int32} {r_ : Int32} (E : EN p s m args meth c0 RX1 cX1_isKnown 2 (Option.some Jvm.ClassFile.FieldType.boolean)) (hX : KX D G ad A s s.heap) (hD : XD dsc nr nw nu) (hA : ∀ q, PA dsc ad s.heap.size q → A q) (hf : xo_X1_isKnown (σ.1 2027) (σ.2.2.1 1170) x1 = some r_) (hQ : Q = MQ below (va_G1 (some (.int r_)) (fun t => PIC D clsA G dsc ad σ t.heap) A) args s 0 0 A) (hP : PIC D clsA G dsc ad σ H) (hS : va_S A s.heap H locs) (hl : lv_has ls 2 [(0, .ref (ad 1000)), (1, .int x1)]) : W p l e rmX1_isKnown s m args below meth c0 H locs 0 0 Q (F0 m 0 ls []) := by
  obtain ⟨⟨hx, hb, hml, hown, hts⟩, hr, hlk⟩ := id E
  unfold xo_X1_isKnown at hf
  refine lv_iload_n hx hb dX1_isKnown_0 rfl (lv_at hl 1 rfl) ?_
  refine lv_iconst hx hb dX1_isKnown_1 ic_0 ?_
  refine lv_aload_n hx hb dX1_isKnown_2 rfl (lv_at hl 0 rfl) ?_
  refine gx_X1_33_1000 E hX hD hP dX1_isKnown_3 ?_
  obtain ⟨v1, u2, hf⟩ := bdP hf
  refine cx_X1_266_X3_knowns E hX hD hP hS hA (kxX3_knowns l D G hD rfl rfl u2) ⟨rfl, rfl⟩ ⟨Nat.le_of_ble_eq_true rfl, Nat.le_of_ble_eq_true rfl⟩ ⟨Nat.zero_le _, Nat.zero_le _⟩ hl.1 (Nat.le_of_ble_eq_true rfl) dX1_isKnown_6 (fun H locs hP hS => ?_)
  refine lv_iconst hx hb dX1_isKnown_9 ic_1 ?_
  refine lv_isub hx hb dX1_isKnown_10 ?_
  obtain ⟨v3, u4, hf⟩ := bdP hf
  refine cx_X1_143_X1_in E hX hD hP hS hA (kxX1_in l D G hD u4) ⟨rfl, rfl⟩ ⟨Nat.le_of_ble_eq_true rfl, Nat.le_of_ble_eq_true rfl⟩ ⟨Nat.zero_le _, Nat.zero_le _⟩ hl.1 (Nat.le_of_ble_eq_true rfl) dX1_isKnown_11 (fun H locs hP hS => ?_)
  obtain ⟨v5, hv5, hf⟩ := bdP hf
  obtain ⟨hv5a, hv5b⟩ := retZ_some hv5
  subst hv5a
  cases hf
  rw [hQ]; exact g_nret hx hb hr hlk hP hS hv5b dX1_isKnown_14
theorem kxX1_isKnown (l : Launch) (D : va_G) (G : Nat → ClassId) {dsc : Nat → Option Dsc} {ad : Nat → Nat} {σ : Sto} {nr nw nu : Nat} (hD : XD dsc nr nw nu) {x1 : Int32} {r_ : Int32} {z_Ld_size : Int32} (e_zI2027 : σ.1 2027 = z_Ld_size) {a_UNIT : Nat → Int32} (e_aI1170 : σ.2.2.1 1170 = a_UNIT) (hf : xo_X1_isKnown z_Ld_size a_UNIT x1 = some r_) : CtG l D G dsc ad yX1_isKnown (ws_ yX1_isKnown cX1_isKnown 2 (Option.some Jvm.ClassFile.FieldType.boolean)) rmX1_isKnown [.ref (ad 1000), .int x1] σ (some (.int r_)) σ := by
  subst e_zI2027
  subst e_aI1170
  exact p_ctG (by decide +kernel) (Nat.le_of_ble_eq_true rfl) (fun p e s m below meth c0 ls A E hP hX hA hS hl => wkX1_isKnown E hX hD hA hf rfl hP hS hl)
/-! X1_weigh ()V -/
def sgX1_weigh (σ : Sto) (w0 : Int32) (w1 : Int32) (w2 : Int32) (w3 : Int64) (w4 : Nat → Int32) (w5 : Nat → Int32) (w6 : Nat → Int64) (w7 : Nat → Int64) (w8 : Nat → Int64) (w9 : Nat → Int64) : Sto := aL (aL (aL (aL (aI (aI (zL (zI (zI (zI σ 1018 w0) 1062 w1) 1082 w2) 1052 w3) 1108 w4) 1162 w5) 1140 w6) 1141 w7) 1150 w8) 1152 w9
theorem sgX1_weigh_self (σ : Sto) : sgX1_weigh σ (σ.1 1018) (σ.1 1062) (σ.1 1082) (σ.2.1 1052) (σ.2.2.1 1108) (σ.2.2.1 1162) (σ.2.2.2.1 1140) (σ.2.2.2.1 1141) (σ.2.2.2.1 1150) (σ.2.2.2.1 1152) = σ := by
  unfold sgX1_weigh
  simp only [zI_self, zL_self, aI_self, aL_self]
theorem sgX1_weigh_zI1018 {σ : Sto} {w0 : Int32} {w1 : Int32} {w2 : Int32} {w3 : Int64} {w4 : Nat → Int32} {w5 : Nat → Int32} {w6 : Nat → Int64} {w7 : Nat → Int64} {w8 : Nat → Int64} {w9 : Nat → Int64} {g : Int32} : zI (sgX1_weigh σ w0 w1 w2 w3 w4 w5 w6 w7 w8 w9) 1018 g = sgX1_weigh σ g w1 w2 w3 w4 w5 w6 w7 w8 w9 := (cm_zI_aL _ _ _ _ _).trans (congrArg (fun z => aL z 1152 w9) ((cm_zI_aL _ _ _ _ _).trans (congrArg (fun z => aL z 1150 w8) ((cm_zI_aL _ _ _ _ _).trans (congrArg (fun z => aL z 1141 w7) ((cm_zI_aL _ _ _ _ _).trans (congrArg (fun z => aL z 1140 w6) ((cm_zI_aI _ _ _ _ _).trans (congrArg (fun z => aI z 1162 w5) ((cm_zI_aI _ _ _ _ _).trans (congrArg (fun z => aI z 1108 w4) ((cm_zI_zL _ _ _ _ _).trans (congrArg (fun z => zL z 1052 w3) ((zI_comm _ (by decide) _ _).trans (congrArg (fun z => zI z 1082 w2) ((zI_comm _ (by decide) _ _).trans (congrArg (fun z => zI z 1062 w1) (zI_zI _ 1018 _ _))))))))))))))))))
theorem sgX1_weigh_zI1062 {σ : Sto} {w0 : Int32} {w1 : Int32} {w2 : Int32} {w3 : Int64} {w4 : Nat → Int32} {w5 : Nat → Int32} {w6 : Nat → Int64} {w7 : Nat → Int64} {w8 : Nat → Int64} {w9 : Nat → Int64} {g : Int32} : zI (sgX1_weigh σ w0 w1 w2 w3 w4 w5 w6 w7 w8 w9) 1062 g = sgX1_weigh σ w0 g w2 w3 w4 w5 w6 w7 w8 w9 := (cm_zI_aL _ _ _ _ _).trans (congrArg (fun z => aL z 1152 w9) ((cm_zI_aL _ _ _ _ _).trans (congrArg (fun z => aL z 1150 w8) ((cm_zI_aL _ _ _ _ _).trans (congrArg (fun z => aL z 1141 w7) ((cm_zI_aL _ _ _ _ _).trans (congrArg (fun z => aL z 1140 w6) ((cm_zI_aI _ _ _ _ _).trans (congrArg (fun z => aI z 1162 w5) ((cm_zI_aI _ _ _ _ _).trans (congrArg (fun z => aI z 1108 w4) ((cm_zI_zL _ _ _ _ _).trans (congrArg (fun z => zL z 1052 w3) ((zI_comm _ (by decide) _ _).trans (congrArg (fun z => zI z 1082 w2) (zI_zI _ 1062 _ _))))))))))))))))
theorem sgX1_weigh_zI1082 {σ : Sto} {w0 : Int32} {w1 : Int32} {w2 : Int32} {w3 : Int64} {w4 : Nat → Int32} {w5 : Nat → Int32} {w6 : Nat → Int64} {w7 : Nat → Int64} {w8 : Nat → Int64} {w9 : Nat → Int64} {g : Int32} : zI (sgX1_weigh σ w0 w1 w2 w3 w4 w5 w6 w7 w8 w9) 1082 g = sgX1_weigh σ w0 w1 g w3 w4 w5 w6 w7 w8 w9 := (cm_zI_aL _ _ _ _ _).trans (congrArg (fun z => aL z 1152 w9) ((cm_zI_aL _ _ _ _ _).trans (congrArg (fun z => aL z 1150 w8) ((cm_zI_aL _ _ _ _ _).trans (congrArg (fun z => aL z 1141 w7) ((cm_zI_aL _ _ _ _ _).trans (congrArg (fun z => aL z 1140 w6) ((cm_zI_aI _ _ _ _ _).trans (congrArg (fun z => aI z 1162 w5) ((cm_zI_aI _ _ _ _ _).trans (congrArg (fun z => aI z 1108 w4) ((cm_zI_zL _ _ _ _ _).trans (congrArg (fun z => zL z 1052 w3) (zI_zI _ 1082 _ _))))))))))))))
theorem sgX1_weigh_zL1052 {σ : Sto} {w0 : Int32} {w1 : Int32} {w2 : Int32} {w3 : Int64} {w4 : Nat → Int32} {w5 : Nat → Int32} {w6 : Nat → Int64} {w7 : Nat → Int64} {w8 : Nat → Int64} {w9 : Nat → Int64} {g : Int64} : zL (sgX1_weigh σ w0 w1 w2 w3 w4 w5 w6 w7 w8 w9) 1052 g = sgX1_weigh σ w0 w1 w2 g w4 w5 w6 w7 w8 w9 := (cm_zL_aL _ _ _ _ _).trans (congrArg (fun z => aL z 1152 w9) ((cm_zL_aL _ _ _ _ _).trans (congrArg (fun z => aL z 1150 w8) ((cm_zL_aL _ _ _ _ _).trans (congrArg (fun z => aL z 1141 w7) ((cm_zL_aL _ _ _ _ _).trans (congrArg (fun z => aL z 1140 w6) ((cm_zL_aI _ _ _ _ _).trans (congrArg (fun z => aI z 1162 w5) ((cm_zL_aI _ _ _ _ _).trans (congrArg (fun z => aI z 1108 w4) (zL_zL _ 1052 _ _))))))))))))
theorem sgX1_weigh_aI1108 {σ : Sto} {w0 : Int32} {w1 : Int32} {w2 : Int32} {w3 : Int64} {w4 : Nat → Int32} {w5 : Nat → Int32} {w6 : Nat → Int64} {w7 : Nat → Int64} {w8 : Nat → Int64} {w9 : Nat → Int64} {g : Nat → Int32} : aI (sgX1_weigh σ w0 w1 w2 w3 w4 w5 w6 w7 w8 w9) 1108 g = sgX1_weigh σ w0 w1 w2 w3 g w5 w6 w7 w8 w9 := (cm_aI_aL _ _ _ _ _).trans (congrArg (fun z => aL z 1152 w9) ((cm_aI_aL _ _ _ _ _).trans (congrArg (fun z => aL z 1150 w8) ((cm_aI_aL _ _ _ _ _).trans (congrArg (fun z => aL z 1141 w7) ((cm_aI_aL _ _ _ _ _).trans (congrArg (fun z => aL z 1140 w6) ((aI_comm _ (by decide) _ _).trans (congrArg (fun z => aI z 1162 w5) (aI_aI _ 1108 _ _))))))))))
theorem sgX1_weigh_aI1162 {σ : Sto} {w0 : Int32} {w1 : Int32} {w2 : Int32} {w3 : Int64} {w4 : Nat → Int32} {w5 : Nat → Int32} {w6 : Nat → Int64} {w7 : Nat → Int64} {w8 : Nat → Int64} {w9 : Nat → Int64} {g : Nat → Int32} : aI (sgX1_weigh σ w0 w1 w2 w3 w4 w5 w6 w7 w8 w9) 1162 g = sgX1_weigh σ w0 w1 w2 w3 w4 g w6 w7 w8 w9 := (cm_aI_aL _ _ _ _ _).trans (congrArg (fun z => aL z 1152 w9) ((cm_aI_aL _ _ _ _ _).trans (congrArg (fun z => aL z 1150 w8) ((cm_aI_aL _ _ _ _ _).trans (congrArg (fun z => aL z 1141 w7) ((cm_aI_aL _ _ _ _ _).trans (congrArg (fun z => aL z 1140 w6) (aI_aI _ 1162 _ _))))))))
theorem sgX1_weigh_aL1140 {σ : Sto} {w0 : Int32} {w1 : Int32} {w2 : Int32} {w3 : Int64} {w4 : Nat → Int32} {w5 : Nat → Int32} {w6 : Nat → Int64} {w7 : Nat → Int64} {w8 : Nat → Int64} {w9 : Nat → Int64} {g : Nat → Int64} : aL (sgX1_weigh σ w0 w1 w2 w3 w4 w5 w6 w7 w8 w9) 1140 g = sgX1_weigh σ w0 w1 w2 w3 w4 w5 g w7 w8 w9 := (aL_comm _ (by decide) _ _).trans (congrArg (fun z => aL z 1152 w9) ((aL_comm _ (by decide) _ _).trans (congrArg (fun z => aL z 1150 w8) ((aL_comm _ (by decide) _ _).trans (congrArg (fun z => aL z 1141 w7) (aL_aL _ 1140 _ _))))))
theorem sgX1_weigh_aL1141 {σ : Sto} {w0 : Int32} {w1 : Int32} {w2 : Int32} {w3 : Int64} {w4 : Nat → Int32} {w5 : Nat → Int32} {w6 : Nat → Int64} {w7 : Nat → Int64} {w8 : Nat → Int64} {w9 : Nat → Int64} {g : Nat → Int64} : aL (sgX1_weigh σ w0 w1 w2 w3 w4 w5 w6 w7 w8 w9) 1141 g = sgX1_weigh σ w0 w1 w2 w3 w4 w5 w6 g w8 w9 := (aL_comm _ (by decide) _ _).trans (congrArg (fun z => aL z 1152 w9) ((aL_comm _ (by decide) _ _).trans (congrArg (fun z => aL z 1150 w8) (aL_aL _ 1141 _ _))))
theorem sgX1_weigh_aL1150 {σ : Sto} {w0 : Int32} {w1 : Int32} {w2 : Int32} {w3 : Int64} {w4 : Nat → Int32} {w5 : Nat → Int32} {w6 : Nat → Int64} {w7 : Nat → Int64} {w8 : Nat → Int64} {w9 : Nat → Int64} {g : Nat → Int64} : aL (sgX1_weigh σ w0 w1 w2 w3 w4 w5 w6 w7 w8 w9) 1150 g = sgX1_weigh σ w0 w1 w2 w3 w4 w5 w6 w7 g w9 := (aL_comm _ (by decide) _ _).trans (congrArg (fun z => aL z 1152 w9) (aL_aL _ 1150 _ _))
theorem sgX1_weigh_aL1152 {σ : Sto} {w0 : Int32} {w1 : Int32} {w2 : Int32} {w3 : Int64} {w4 : Nat → Int32} {w5 : Nat → Int32} {w6 : Nat → Int64} {w7 : Nat → Int64} {w8 : Nat → Int64} {w9 : Nat → Int64} {g : Nat → Int64} : aL (sgX1_weigh σ w0 w1 w2 w3 w4 w5 w6 w7 w8 w9) 1152 g = sgX1_weigh σ w0 w1 w2 w3 w4 w5 w6 w7 w8 g := aL_aL _ 1152 _ _
theorem sgX1_weigh_rzI1018 {σ : Sto} {w0 : Int32} {w1 : Int32} {w2 : Int32} {w3 : Int64} {w4 : Nat → Int32} {w5 : Nat → Int32} {w6 : Nat → Int64} {w7 : Nat → Int64} {w8 : Nat → Int64} {w9 : Nat → Int64} : (sgX1_weigh σ w0 w1 w2 w3 w4 w5 w6 w7 w8 w9).1 1018 = w0 := rfl
theorem sgX1_weigh_rzI1062 {σ : Sto} {w0 : Int32} {w1 : Int32} {w2 : Int32} {w3 : Int64} {w4 : Nat → Int32} {w5 : Nat → Int32} {w6 : Nat → Int64} {w7 : Nat → Int64} {w8 : Nat → Int64} {w9 : Nat → Int64} : (sgX1_weigh σ w0 w1 w2 w3 w4 w5 w6 w7 w8 w9).1 1062 = w1 := rfl
theorem sgX1_weigh_rzI1082 {σ : Sto} {w0 : Int32} {w1 : Int32} {w2 : Int32} {w3 : Int64} {w4 : Nat → Int32} {w5 : Nat → Int32} {w6 : Nat → Int64} {w7 : Nat → Int64} {w8 : Nat → Int64} {w9 : Nat → Int64} : (sgX1_weigh σ w0 w1 w2 w3 w4 w5 w6 w7 w8 w9).1 1082 = w2 := rfl
theorem sgX1_weigh_rzI2008 {σ : Sto} {w0 : Int32} {w1 : Int32} {w2 : Int32} {w3 : Int64} {w4 : Nat → Int32} {w5 : Nat → Int32} {w6 : Nat → Int64} {w7 : Nat → Int64} {w8 : Nat → Int64} {w9 : Nat → Int64} : (sgX1_weigh σ w0 w1 w2 w3 w4 w5 w6 w7 w8 w9).1 2008 = σ.1 2008 := rfl
theorem sgX1_weigh_rzI2009 {σ : Sto} {w0 : Int32} {w1 : Int32} {w2 : Int32} {w3 : Int64} {w4 : Nat → Int32} {w5 : Nat → Int32} {w6 : Nat → Int64} {w7 : Nat → Int64} {w8 : Nat → Int64} {w9 : Nat → Int64} : (sgX1_weigh σ w0 w1 w2 w3 w4 w5 w6 w7 w8 w9).1 2009 = σ.1 2009 := rfl
theorem sgX1_weigh_rzI2012 {σ : Sto} {w0 : Int32} {w1 : Int32} {w2 : Int32} {w3 : Int64} {w4 : Nat → Int32} {w5 : Nat → Int32} {w6 : Nat → Int64} {w7 : Nat → Int64} {w8 : Nat → Int64} {w9 : Nat → Int64} : (sgX1_weigh σ w0 w1 w2 w3 w4 w5 w6 w7 w8 w9).1 2012 = σ.1 2012 := rfl
theorem sgX1_weigh_rzI2013 {σ : Sto} {w0 : Int32} {w1 : Int32} {w2 : Int32} {w3 : Int64} {w4 : Nat → Int32} {w5 : Nat → Int32} {w6 : Nat → Int64} {w7 : Nat → Int64} {w8 : Nat → Int64} {w9 : Nat → Int64} : (sgX1_weigh σ w0 w1 w2 w3 w4 w5 w6 w7 w8 w9).1 2013 = σ.1 2013 := rfl
theorem sgX1_weigh_rzI2027 {σ : Sto} {w0 : Int32} {w1 : Int32} {w2 : Int32} {w3 : Int64} {w4 : Nat → Int32} {w5 : Nat → Int32} {w6 : Nat → Int64} {w7 : Nat → Int64} {w8 : Nat → Int64} {w9 : Nat → Int64} : (sgX1_weigh σ w0 w1 w2 w3 w4 w5 w6 w7 w8 w9).1 2027 = σ.1 2027 := rfl
theorem sgX1_weigh_rzI2032 {σ : Sto} {w0 : Int32} {w1 : Int32} {w2 : Int32} {w3 : Int64} {w4 : Nat → Int32} {w5 : Nat → Int32} {w6 : Nat → Int64} {w7 : Nat → Int64} {w8 : Nat → Int64} {w9 : Nat → Int64} : (sgX1_weigh σ w0 w1 w2 w3 w4 w5 w6 w7 w8 w9).1 2032 = σ.1 2032 := rfl
theorem sgX1_weigh_rzL1052 {σ : Sto} {w0 : Int32} {w1 : Int32} {w2 : Int32} {w3 : Int64} {w4 : Nat → Int32} {w5 : Nat → Int32} {w6 : Nat → Int64} {w7 : Nat → Int64} {w8 : Nat → Int64} {w9 : Nat → Int64} : (sgX1_weigh σ w0 w1 w2 w3 w4 w5 w6 w7 w8 w9).2.1 1052 = w3 := rfl
theorem sgX1_weigh_rzL1061 {σ : Sto} {w0 : Int32} {w1 : Int32} {w2 : Int32} {w3 : Int64} {w4 : Nat → Int32} {w5 : Nat → Int32} {w6 : Nat → Int64} {w7 : Nat → Int64} {w8 : Nat → Int64} {w9 : Nat → Int64} : (sgX1_weigh σ w0 w1 w2 w3 w4 w5 w6 w7 w8 w9).2.1 1061 = σ.2.1 1061 := rfl
theorem sgX1_weigh_rzL1081 {σ : Sto} {w0 : Int32} {w1 : Int32} {w2 : Int32} {w3 : Int64} {w4 : Nat → Int32} {w5 : Nat → Int32} {w6 : Nat → Int64} {w7 : Nat → Int64} {w8 : Nat → Int64} {w9 : Nat → Int64} : (sgX1_weigh σ w0 w1 w2 w3 w4 w5 w6 w7 w8 w9).2.1 1081 = σ.2.1 1081 := rfl
theorem sgX1_weigh_raI1108 {σ : Sto} {w0 : Int32} {w1 : Int32} {w2 : Int32} {w3 : Int64} {w4 : Nat → Int32} {w5 : Nat → Int32} {w6 : Nat → Int64} {w7 : Nat → Int64} {w8 : Nat → Int64} {w9 : Nat → Int64} : (sgX1_weigh σ w0 w1 w2 w3 w4 w5 w6 w7 w8 w9).2.2.1 1108 = w4 := rfl
theorem sgX1_weigh_raI1162 {σ : Sto} {w0 : Int32} {w1 : Int32} {w2 : Int32} {w3 : Int64} {w4 : Nat → Int32} {w5 : Nat → Int32} {w6 : Nat → Int64} {w7 : Nat → Int64} {w8 : Nat → Int64} {w9 : Nat → Int64} : (sgX1_weigh σ w0 w1 w2 w3 w4 w5 w6 w7 w8 w9).2.2.1 1162 = w5 := rfl
theorem sgX1_weigh_raI1170 {σ : Sto} {w0 : Int32} {w1 : Int32} {w2 : Int32} {w3 : Int64} {w4 : Nat → Int32} {w5 : Nat → Int32} {w6 : Nat → Int64} {w7 : Nat → Int64} {w8 : Nat → Int64} {w9 : Nat → Int64} : (sgX1_weigh σ w0 w1 w2 w3 w4 w5 w6 w7 w8 w9).2.2.1 1170 = σ.2.2.1 1170 := rfl
theorem sgX1_weigh_raI2036 {σ : Sto} {w0 : Int32} {w1 : Int32} {w2 : Int32} {w3 : Int64} {w4 : Nat → Int32} {w5 : Nat → Int32} {w6 : Nat → Int64} {w7 : Nat → Int64} {w8 : Nat → Int64} {w9 : Nat → Int64} : (sgX1_weigh σ w0 w1 w2 w3 w4 w5 w6 w7 w8 w9).2.2.1 2036 = σ.2.2.1 2036 := rfl
theorem sgX1_weigh_raI2037 {σ : Sto} {w0 : Int32} {w1 : Int32} {w2 : Int32} {w3 : Int64} {w4 : Nat → Int32} {w5 : Nat → Int32} {w6 : Nat → Int64} {w7 : Nat → Int64} {w8 : Nat → Int64} {w9 : Nat → Int64} : (sgX1_weigh σ w0 w1 w2 w3 w4 w5 w6 w7 w8 w9).2.2.1 2037 = σ.2.2.1 2037 := rfl
theorem sgX1_weigh_raI2042 {σ : Sto} {w0 : Int32} {w1 : Int32} {w2 : Int32} {w3 : Int64} {w4 : Nat → Int32} {w5 : Nat → Int32} {w6 : Nat → Int64} {w7 : Nat → Int64} {w8 : Nat → Int64} {w9 : Nat → Int64} : (sgX1_weigh σ w0 w1 w2 w3 w4 w5 w6 w7 w8 w9).2.2.1 2042 = σ.2.2.1 2042 := rfl
theorem sgX1_weigh_raI2043 {σ : Sto} {w0 : Int32} {w1 : Int32} {w2 : Int32} {w3 : Int64} {w4 : Nat → Int32} {w5 : Nat → Int32} {w6 : Nat → Int64} {w7 : Nat → Int64} {w8 : Nat → Int64} {w9 : Nat → Int64} : (sgX1_weigh σ w0 w1 w2 w3 w4 w5 w6 w7 w8 w9).2.2.1 2043 = σ.2.2.1 2043 := rfl
theorem sgX1_weigh_raL1140 {σ : Sto} {w0 : Int32} {w1 : Int32} {w2 : Int32} {w3 : Int64} {w4 : Nat → Int32} {w5 : Nat → Int32} {w6 : Nat → Int64} {w7 : Nat → Int64} {w8 : Nat → Int64} {w9 : Nat → Int64} : (sgX1_weigh σ w0 w1 w2 w3 w4 w5 w6 w7 w8 w9).2.2.2.1 1140 = w6 := rfl
theorem sgX1_weigh_raL1141 {σ : Sto} {w0 : Int32} {w1 : Int32} {w2 : Int32} {w3 : Int64} {w4 : Nat → Int32} {w5 : Nat → Int32} {w6 : Nat → Int64} {w7 : Nat → Int64} {w8 : Nat → Int64} {w9 : Nat → Int64} : (sgX1_weigh σ w0 w1 w2 w3 w4 w5 w6 w7 w8 w9).2.2.2.1 1141 = w7 := rfl
theorem sgX1_weigh_raL1150 {σ : Sto} {w0 : Int32} {w1 : Int32} {w2 : Int32} {w3 : Int64} {w4 : Nat → Int32} {w5 : Nat → Int32} {w6 : Nat → Int64} {w7 : Nat → Int64} {w8 : Nat → Int64} {w9 : Nat → Int64} : (sgX1_weigh σ w0 w1 w2 w3 w4 w5 w6 w7 w8 w9).2.2.2.1 1150 = w8 := rfl
theorem sgX1_weigh_raL1152 {σ : Sto} {w0 : Int32} {w1 : Int32} {w2 : Int32} {w3 : Int64} {w4 : Nat → Int32} {w5 : Nat → Int32} {w6 : Nat → Int64} {w7 : Nat → Int64} {w8 : Nat → Int64} {w9 : Nat → Int64} : (sgX1_weigh σ w0 w1 w2 w3 w4 w5 w6 w7 w8 w9).2.2.2.1 1152 = w9 := rfl
theorem sgX1_weigh_rpR2 {σ : Sto} {w0 : Int32} {w1 : Int32} {w2 : Int32} {w3 : Int64} {w4 : Nat → Int32} {w5 : Nat → Int32} {w6 : Nat → Int64} {w7 : Nat → Int64} {w8 : Nat → Int64} {w9 : Nat → Int64} : (fun k => (sgX1_weigh σ w0 w1 w2 w3 w4 w5 w6 w7 w8 w9).1 (6000 + 16 * k + 2)) = (fun k => σ.1 (6000 + 16 * k + 2)) := by
  funext k
  unfold sgX1_weigh
  dsimp only [zI, zL, aI, aL]
  repeat rw [if_neg (by omega)]
theorem sgX1_weigh_rpR3 {σ : Sto} {w0 : Int32} {w1 : Int32} {w2 : Int32} {w3 : Int64} {w4 : Nat → Int32} {w5 : Nat → Int32} {w6 : Nat → Int64} {w7 : Nat → Int64} {w8 : Nat → Int64} {w9 : Nat → Int64} : (fun k => (sgX1_weigh σ w0 w1 w2 w3 w4 w5 w6 w7 w8 w9).1 (6000 + 16 * k + 3)) = (fun k => σ.1 (6000 + 16 * k + 3)) := by
  funext k
  unfold sgX1_weigh
  dsimp only [zI, zL, aI, aL]
  repeat rw [if_neg (by omega)]
theorem sgX1_weigh_rpR4 {σ : Sto} {w0 : Int32} {w1 : Int32} {w2 : Int32} {w3 : Int64} {w4 : Nat → Int32} {w5 : Nat → Int32} {w6 : Nat → Int64} {w7 : Nat → Int64} {w8 : Nat → Int64} {w9 : Nat → Int64} : (fun k => (sgX1_weigh σ w0 w1 w2 w3 w4 w5 w6 w7 w8 w9).1 (6000 + 16 * k + 4)) = (fun k => σ.1 (6000 + 16 * k + 4)) := by
  funext k
  unfold sgX1_weigh
  dsimp only [zI, zL, aI, aL]
  repeat rw [if_neg (by omega)]
theorem sgX1_weigh_rpR5 {σ : Sto} {w0 : Int32} {w1 : Int32} {w2 : Int32} {w3 : Int64} {w4 : Nat → Int32} {w5 : Nat → Int32} {w6 : Nat → Int64} {w7 : Nat → Int64} {w8 : Nat → Int64} {w9 : Nat → Int64} : (fun k => (sgX1_weigh σ w0 w1 w2 w3 w4 w5 w6 w7 w8 w9).1 (6000 + 16 * k + 5)) = (fun k => σ.1 (6000 + 16 * k + 5)) := by
  funext k
  unfold sgX1_weigh
  dsimp only [zI, zL, aI, aL]
  repeat rw [if_neg (by omega)]
theorem sgX1_weigh_rpR6 {σ : Sto} {w0 : Int32} {w1 : Int32} {w2 : Int32} {w3 : Int64} {w4 : Nat → Int32} {w5 : Nat → Int32} {w6 : Nat → Int64} {w7 : Nat → Int64} {w8 : Nat → Int64} {w9 : Nat → Int64} : (fun k => (sgX1_weigh σ w0 w1 w2 w3 w4 w5 w6 w7 w8 w9).1 (6000 + 16 * k + 6)) = (fun k => σ.1 (6000 + 16 * k + 6)) := by
  funext k
  unfold sgX1_weigh
  dsimp only [zI, zL, aI, aL]
  repeat rw [if_neg (by omega)]
theorem sgX1_weigh_rpW0 {σ : Sto} {w0 : Int32} {w1 : Int32} {w2 : Int32} {w3 : Int64} {w4 : Nat → Int32} {w5 : Nat → Int32} {w6 : Nat → Int64} {w7 : Nat → Int64} {w8 : Nat → Int64} {w9 : Nat → Int64} : (fun k => (sgX1_weigh σ w0 w1 w2 w3 w4 w5 w6 w7 w8 w9).1 (8000 + 16 * k + 0)) = (fun k => σ.1 (8000 + 16 * k + 0)) := by
  funext k
  unfold sgX1_weigh
  dsimp only [zI, zL, aI, aL]
  repeat rw [if_neg (by omega)]
theorem sgX1_weigh_rpW1 {σ : Sto} {w0 : Int32} {w1 : Int32} {w2 : Int32} {w3 : Int64} {w4 : Nat → Int32} {w5 : Nat → Int32} {w6 : Nat → Int64} {w7 : Nat → Int64} {w8 : Nat → Int64} {w9 : Nat → Int64} : (fun k => (sgX1_weigh σ w0 w1 w2 w3 w4 w5 w6 w7 w8 w9).1 (8000 + 16 * k + 1)) = (fun k => σ.1 (8000 + 16 * k + 1)) := by
  funext k
  unfold sgX1_weigh
  dsimp only [zI, zL, aI, aL]
  repeat rw [if_neg (by omega)]
theorem sgX1_weigh_rpW2 {σ : Sto} {w0 : Int32} {w1 : Int32} {w2 : Int32} {w3 : Int64} {w4 : Nat → Int32} {w5 : Nat → Int32} {w6 : Nat → Int64} {w7 : Nat → Int64} {w8 : Nat → Int64} {w9 : Nat → Int64} : (fun k => (sgX1_weigh σ w0 w1 w2 w3 w4 w5 w6 w7 w8 w9).1 (8000 + 16 * k + 2)) = (fun k => σ.1 (8000 + 16 * k + 2)) := by
  funext k
  unfold sgX1_weigh
  dsimp only [zI, zL, aI, aL]
  repeat rw [if_neg (by omega)]
theorem sgX1_weigh_rgG0 {σ : Sto} {w0 : Int32} {w1 : Int32} {w2 : Int32} {w3 : Int64} {w4 : Nat → Int32} {w5 : Nat → Int32} {w6 : Nat → Int64} {w7 : Nat → Int64} {w8 : Nat → Int64} {w9 : Nat → Int64} : (fun k => (sgX1_weigh σ w0 w1 w2 w3 w4 w5 w6 w7 w8 w9).2.2.1 (4000 + 16 * k)) = (fun k => σ.2.2.1 (4000 + 16 * k)) := by
  funext k
  unfold sgX1_weigh
  dsimp only [zI, zL, aI, aL]
  repeat rw [if_neg (by omega)]
abbrev rmX1_weigh : Room := { frames := 49, cells := 0, slots := 0, locals := 1337 }
set_option maxHeartbeats 4000000 in
theorem wkX1_weigh {w_zI1018 : Int32} {w_zI1062 : Int32} {w_zI1082 : Int32} {w_zL1052 : Int64} {w_aI1108 : Nat → Int32} {w_aI1162 : Nat → Int32} {w_aL1140 : Nat → Int64} {w_aL1141 : Nat → Int64} {w_aL1150 : Nat → Int64} {w_aL1152 : Nat → Int64} (E : EN p s m args meth c0 RX1 cX1_weigh 1 (Option.none : Option Jvm.ClassFile.FieldType)) (hX : KX D G ad A s s.heap) (hD : XD dsc nr nw nu) (hA : ∀ q, PA dsc ad s.heap.size q → A q) (hf : xo_X1_weigh (σ.1 1018) (σ.1 1062) (σ.1 1082) (σ.1 2008) (σ.1 2009) (σ.1 2012) (σ.1 2013) (σ.1 2027) (σ.1 2032) (σ.2.1 1052) (σ.2.1 1061) (σ.2.1 1081) (σ.2.2.1 1108) (σ.2.2.1 1162) (σ.2.2.1 1170) (σ.2.2.1 2036) (σ.2.2.1 2037) (σ.2.2.1 2042) (σ.2.2.1 2043) (σ.2.2.2.1 1140) (σ.2.2.2.1 1141) (σ.2.2.2.1 1150) (σ.2.2.2.1 1152) nr nw (fun k => σ.1 (6000 + 16 * k + 2)) (fun k => σ.1 (6000 + 16 * k + 3)) (fun k => σ.1 (6000 + 16 * k + 4)) (fun k => σ.1 (6000 + 16 * k + 5)) (fun k => σ.1 (6000 + 16 * k + 6)) (fun k => σ.1 (8000 + 16 * k + 0)) (fun k => σ.1 (8000 + 16 * k + 1)) (fun k => σ.1 (8000 + 16 * k + 2)) (fun k => σ.2.2.1 (4000 + 16 * k)) = some (w_zI1018, w_zI1062, w_zI1082, w_zL1052, w_aI1108, w_aI1162, w_aL1140, w_aL1141, w_aL1150, w_aL1152)) (hQ : Q = MQ below (va_G1 none (fun t => PIC D clsA G dsc ad (sgX1_weigh σ w_zI1018 w_zI1062 w_zI1082 w_zL1052 w_aI1108 w_aI1162 w_aL1140 w_aL1141 w_aL1150 w_aL1152) t.heap) A) args s 0 0 A) (hP : PIC D clsA G dsc ad σ H) (hS : va_S A s.heap H locs) (hl : lv_has ls 1 [(0, .ref (ad 1000))]) : W p l e rmX1_weigh s m args below meth c0 H locs 0 0 Q (F0 m 0 ls []) := by
  obtain ⟨⟨hx, hb, hml, hown, hts⟩, hr, hlk⟩ := id E
  have hP := hP.to (sgX1_weigh_self σ).symm
  unfold xo_X1_weigh at hf
  refine lv_aload_n hx hb dX1_weigh_0 rfl (lv_at hl 0 rfl) ?_
  refine gx_X1_33_1000 E hX hD hP dX1_weigh_1 ?_
  obtain ⟨v1, u2, hf⟩ := bdP hf
  refine cx_X1_231_X3_isWhole E hX hD hP hS hA (kxX3_isWhole l D G hD sgX1_weigh_rzI2012 sgX1_weigh_rzI2013 u2) ⟨rfl, rfl⟩ ⟨Nat.le_of_ble_eq_true rfl, Nat.le_of_ble_eq_true rfl⟩ ⟨Nat.zero_le _, Nat.zero_le _⟩ hl.1 (Nat.le_of_ble_eq_true rfl) dX1_weigh_4 (fun H locs hP hS => ?_)
  refine lv_if_eq (tgt := 15) hx hb dX1_weigh_7 (by decide) (fun c3 => ?_) (fun c3 => ?_)
  · have hf := ifT c3 hf
    refine lv_aload_n hx hb dX1_weigh_15 rfl (lv_at hl 0 rfl) ?_
    refine gx_X1_40_1000 E hX hD hP dX1_weigh_16 ?_
    refine lv_aload_n hx hb dX1_weigh_19 rfl (lv_at hl 0 rfl) ?_
    refine gx_X1_33_1000 E hX hD hP dX1_weigh_20 ?_
    refine lv_iconst hx hb dX1_weigh_23 ic_m1 ?_
    refine lv_iconst hx hb dX1_weigh_24 ic_0 ?_
    obtain ⟨⟨z4, a5, a6⟩, u7, hf⟩ := bdP hf
    dsimp only at hf
    refine cx_X1_227_X4_lay_W E hX hD hP hS hA (kxX4_lay_W l D G hD sgX1_weigh_rzI2009 sgX1_weigh_rzI2027 sgX1_weigh_rzL1052 sgX1_weigh_raI1170 sgX1_weigh_raI2036 sgX1_weigh_raI2042 sgX1_weigh_raL1140 sgX1_weigh_raL1141 rfl sgX1_weigh_rpR3 sgX1_weigh_rpR4 u7) ⟨rfl, rfl⟩ ⟨Nat.le_of_ble_eq_true rfl, Nat.le_of_ble_eq_true rfl⟩ ⟨Nat.zero_le _, Nat.zero_le _⟩ hl.1 (Nat.le_of_ble_eq_true rfl) dX1_weigh_25 (fun H locs hP hS => ?_)
    rw [sgX1_weigh_zL1052, sgX1_weigh_aL1140, sgX1_weigh_aL1141] at hP
    refine lv_aload_n hx hb dX1_weigh_28 rfl (lv_at hl 0 rfl) ?_
    refine gx_X1_53_1000 E hX hD hP dX1_weigh_29 ?_
    refine lv_aload_n hx hb dX1_weigh_32 rfl (lv_at hl 0 rfl) ?_
    refine gx_X1_40_1000 E hX hD hP dX1_weigh_33 ?_
    obtain ⟨⟨z8, a9⟩, u10, hf⟩ := bdP hf
    dsimp only at hf
    refine cx_X1_235_X5_lay_TB_W E hX hD hP hS hA (kxX5_lay_TB_W l D G hD sgX1_weigh_rzI1062 sgX1_weigh_rzI2008 sgX1_weigh_rzI2013 sgX1_weigh_rzI2027 sgX1_weigh_rzI2032 sgX1_weigh_rzL1061 sgX1_weigh_raI1170 sgX1_weigh_raI2037 sgX1_weigh_raI2043 sgX1_weigh_raL1141 sgX1_weigh_raL1150 rfl rfl sgX1_weigh_rpR2 sgX1_weigh_rpR5 sgX1_weigh_rpR6 sgX1_weigh_rpW0 sgX1_weigh_rpW1 sgX1_weigh_rpW2 sgX1_weigh_rgG0 u10) ⟨rfl, rfl⟩ ⟨Nat.le_of_ble_eq_true rfl, Nat.le_of_ble_eq_true rfl⟩ ⟨Nat.zero_le _, Nat.zero_le _⟩ hl.1 (Nat.le_of_ble_eq_true rfl) dX1_weigh_36 (fun H locs hP hS => ?_)
    rw [sgX1_weigh_zI1062, sgX1_weigh_aL1150] at hP
    cases hf
    rw [hQ]; exact g_vret hx hb hr hlk hP hS dX1_weigh_39
  · have hf := ifF c3 hf
    refine lv_aload_n hx hb dX1_weigh_10 rfl (lv_at hl 0 rfl) ?_
    obtain ⟨⟨z11, z12, z13, z14, a15, a16, a17, a18, a19, a20⟩, u21, hf⟩ := bdP hf
    dsimp only at hf
    refine cx_X1_276_X1_lay E hX hD hP hS hA (kxX1_lay l D G hD sgX1_weigh_rzI1018 sgX1_weigh_rzI1062 sgX1_weigh_rzI1082 sgX1_weigh_rzI2008 sgX1_weigh_rzI2009 sgX1_weigh_rzI2012 sgX1_weigh_rzI2013 sgX1_weigh_rzI2027 sgX1_weigh_rzI2032 sgX1_weigh_rzL1052 sgX1_weigh_rzL1061 sgX1_weigh_rzL1081 sgX1_weigh_raI1108 sgX1_weigh_raI1162 sgX1_weigh_raI1170 sgX1_weigh_raI2036 sgX1_weigh_raI2037 sgX1_weigh_raI2042 sgX1_weigh_raI2043 sgX1_weigh_raL1140 sgX1_weigh_raL1141 sgX1_weigh_raL1150 sgX1_weigh_raL1152 rfl rfl sgX1_weigh_rpR2 sgX1_weigh_rpR3 sgX1_weigh_rpR4 sgX1_weigh_rpR5 sgX1_weigh_rpR6 sgX1_weigh_rpW0 sgX1_weigh_rpW1 sgX1_weigh_rpW2 sgX1_weigh_rgG0 u21) ⟨rfl, rfl⟩ ⟨Nat.le_of_ble_eq_true rfl, Nat.le_of_ble_eq_true rfl⟩ ⟨Nat.zero_le _, Nat.zero_le _⟩ hl.1 (Nat.le_of_ble_eq_true rfl) dX1_weigh_11 (fun H locs hP hS => ?_)
    rw [sgX1_weigh_zI1018, sgX1_weigh_zI1062, sgX1_weigh_zI1082, sgX1_weigh_zL1052, sgX1_weigh_aI1108, sgX1_weigh_aI1162, sgX1_weigh_aL1140, sgX1_weigh_aL1141, sgX1_weigh_aL1150, sgX1_weigh_aL1152] at hP
    cases hf
    rw [hQ]; exact g_vret hx hb hr hlk hP hS dX1_weigh_14
theorem kxX1_weigh (l : Launch) (D : va_G) (G : Nat → ClassId) {dsc : Nat → Option Dsc} {ad : Nat → Nat} {σ : Sto} {nr nw nu : Nat} (hD : XD dsc nr nw nu) {w_zI1018 : Int32} {w_zI1062 : Int32} {w_zI1082 : Int32} {w_zL1052 : Int64} {w_aI1108 : Nat → Int32} {w_aI1162 : Nat → Int32} {w_aL1140 : Nat → Int64} {w_aL1141 : Nat → Int64} {w_aL1150 : Nat → Int64} {w_aL1152 : Nat → Int64} {z_X_isLaid : Int32} (e_zI1018 : σ.1 1018 = z_X_isLaid) {z_TB_by : Int32} (e_zI1062 : σ.1 1062 = z_TB_by) {z_TS_by : Int32} (e_zI1082 : σ.1 1082 = z_TS_by) {z_L_places : Int32} (e_zI2008 : σ.1 2008 = z_L_places) {z_L_causes : Int32} (e_zI2009 : σ.1 2009 = z_L_causes) {z_L_from : Int32} (e_zI2012 : σ.1 2012 = z_L_from) {z_L_to : Int32} (e_zI2013 : σ.1 2013 = z_L_to) {z_Ld_size : Int32} (e_zI2027 : σ.1 2027 = z_Ld_size) {z_Lw_size : Int32} (e_zI2032 : σ.1 2032 = z_Lw_size) {z_W_all : Int64} (e_zL1052 : σ.2.1 1052 = z_W_all) {z_TB_none : Int64} (e_zL1061 : σ.2.1 1061 = z_TB_none) {z_TS_none : Int64} (e_zL1081 : σ.2.1 1081 = z_TS_none) {a_X_knowing : Nat → Int32} (e_aI1108 : σ.2.2.1 1108 = a_X_knowing) {a_p3_far : Nat → Int32} (e_aI1162 : σ.2.2.1 1162 = a_p3_far) {a_UNIT : Nat → Int32} (e_aI1170 : σ.2.2.1 1170 = a_UNIT) {a_Ld_data : Nat → Int32} (e_aI2036 : σ.2.2.1 2036 = a_Ld_data) {a_Lw_data : Nat → Int32} (e_aI2037 : σ.2.2.1 2037 = a_Lw_data) {a_L_comes : Nat → Int32} (e_aI2042 : σ.2.2.1 2042 = a_L_comes) {a_L_seen : Nat → Int32} (e_aI2043 : σ.2.2.1 2043 = a_L_seen) {a_W_world : Nat → Int64} (e_aL1140 : σ.2.2.2.1 1140 = a_W_world) {a_W_likely : Nat → Int64} (e_aL1141 : σ.2.2.2.1 1141 = a_W_likely) {a_TB_value : Nat → Int64} (e_aL1150 : σ.2.2.2.1 1150 = a_TB_value) {a_TS_value : Nat → Int64} (e_aL1152 : σ.2.2.2.1 1152 = a_TS_value) {n_r : Nat} (e_nN0 : nr = n_r) {n_w : Nat} (e_nN1 : nw = n_w) {p_road_hours : Nat → Int32} (e_pR2 : (fun k => σ.1 (6000 + 16 * k + 2)) = p_road_hours) {p_road_doubt : Nat → Int32} (e_pR3 : (fun k => σ.1 (6000 + 16 * k + 3)) = p_road_doubt) {p_road_cause : Nat → Int32} (e_pR4 : (fun k => σ.1 (6000 + 16 * k + 4)) = p_road_cause) {p_road_wait : Nat → Int32} (e_pR5 : (fun k => σ.1 (6000 + 16 * k + 5)) = p_road_wait) {p_road_number : Nat → Int32} (e_pR6 : (fun k => σ.1 (6000 + 16 * k + 6)) = p_road_number) {p_word_place : Nat → Int32} (e_pW0 : (fun k => σ.1 (8000 + 16 * k + 0)) = p_word_place) {p_word_road : Nat → Int32} (e_pW1 : (fun k => σ.1 (8000 + 16 * k + 1)) = p_word_road) {p_word_hours : Nat → Int32} (e_pW2 : (fun k => σ.1 (8000 + 16 * k + 2)) = p_word_hours) {g_grid : Nat → Nat → Int32} (e_gG0 : (fun k => σ.2.2.1 (4000 + 16 * k)) = g_grid) (hf : xo_X1_weigh z_X_isLaid z_TB_by z_TS_by z_L_places z_L_causes z_L_from z_L_to z_Ld_size z_Lw_size z_W_all z_TB_none z_TS_none a_X_knowing a_p3_far a_UNIT a_Ld_data a_Lw_data a_L_comes a_L_seen a_W_world a_W_likely a_TB_value a_TS_value n_r n_w p_road_hours p_road_doubt p_road_cause p_road_wait p_road_number p_word_place p_word_road p_word_hours g_grid = some (w_zI1018, w_zI1062, w_zI1082, w_zL1052, w_aI1108, w_aI1162, w_aL1140, w_aL1141, w_aL1150, w_aL1152)) : CtG l D G dsc ad yX1_weigh (ws_ yX1_weigh cX1_weigh 1 (Option.none : Option Jvm.ClassFile.FieldType)) rmX1_weigh [.ref (ad 1000)] σ none (aL (aL (aL (aL (aI (aI (zL (zI (zI (zI σ 1018 w_zI1018) 1062 w_zI1062) 1082 w_zI1082) 1052 w_zL1052) 1108 w_aI1108) 1162 w_aI1162) 1140 w_aL1140) 1141 w_aL1141) 1150 w_aL1150) 1152 w_aL1152) := by
  subst e_zI1018
  subst e_zI1062
  subst e_zI1082
  subst e_zI2008
  subst e_zI2009
  subst e_zI2012
  subst e_zI2013
  subst e_zI2027
  subst e_zI2032
  subst e_zL1052
  subst e_zL1061
  subst e_zL1081
  subst e_aI1108
  subst e_aI1162
  subst e_aI1170
  subst e_aI2036
  subst e_aI2037
  subst e_aI2042
  subst e_aI2043
  subst e_aL1140
  subst e_aL1141
  subst e_aL1150
  subst e_aL1152
  subst e_nN0
  subst e_nN1
  subst e_pR2
  subst e_pR3
  subst e_pR4
  subst e_pR5
  subst e_pR6
  subst e_pW0
  subst e_pW1
  subst e_pW2
  subst e_gG0
  exact p_ctG (by decide +kernel) (Nat.le_of_ble_eq_true rfl) (fun p e s m below meth c0 ls A E hP hX hA hS hl => wkX1_weigh E hX hD hA hf rfl hP hS hl)
theorem gx_X1_337_1060 {v : Int64} (E : EN p s m args meth c0 RX1 cc nL ret) (hX : KX D G ad A s s.heap) (hD : XD dsc nr nw nu) (hP : PIC D clsA G dsc ad σ H) (hv : σ.2.1 1061 = v) (hdg : decode cc pc = .ok (.getfield 337, 3)) (kk : W p l e R s m args below meth c0 H locs cells slots Q (F0 m (pc + 3) ls (.long v :: rest))) : W p l e R s m args below meth c0 H locs cells slots Q (F0 m pc ls (.ref (ad 1060) :: rest)) :=
  p_get E.1.1 E.1.2.1 E.1.2.2.2.2 in_X6 E.1.2.2.2.1 hX.1 hP (hD.1 _ _ dX_1060) rfl 1 (by decide) (E.1.2.2.2.2 _ q356) (fun _ h => h) rfl (congrArg Value.long hv) hdg kk
/-! X1_told_TB (JLShutPasses$Table;)J -/
abbrev rmX1_told_TB : Room := { frames := 0, cells := 0, slots := 0, locals := 0 }
set_option maxHeartbeats 4000000 in
theorem wkX1_told_TB {x1 : Int64} {r_ : Int64} (E : EN p s m args meth c0 RX1 cX1_told 4 (Option.some Jvm.ClassFile.FieldType.long)) (hX : KX D G ad A s s.heap) (hD : XD dsc nr nw nu) (hA : ∀ q, PA dsc ad s.heap.size q → A q) (hf : xo_X1_told_TB (σ.2.1 1061) x1 = some r_) (hQ : Q = MQ below (va_G1 (some (.long r_)) (fun t => PIC D clsA G dsc ad σ t.heap) A) args s 0 0 A) (hP : PIC D clsA G dsc ad σ H) (hS : va_S A s.heap H locs) (hl : lv_has ls 4 [(0, .ref (ad 1000)), (1, .long x1), (3, .ref (ad 1060))]) : W p l e rmX1_told_TB s m args below meth c0 H locs 0 0 Q (F0 m 0 ls []) := by
  obtain ⟨⟨hx, hb, hml, hown, hts⟩, hr, hlk⟩ := id E
  unfold xo_X1_told_TB at hf
  refine lv_lload_n hx hb dX1_told_0 rfl (lv_at hl 1 rfl) ?_
  refine lv_aload_n hx hb dX1_told_1 rfl (lv_at hl 2 rfl) ?_
  refine gx_X1_337_1060 (v := (σ.2.1 1061)) E hX hD hP rfl dX1_told_2 ?_
  refine W.lcmp hx hb dX1_told_5 ?_
  refine lv_if_ne (tgt := 15) hx hb dX1_told_6 (by decide) (fun c1 => ?_) (fun c1 => ?_)
  · have hf := ifF (mt (lgc_eq _ _).mpr c1) hf
    refine lv_lload_n hx hb dX1_told_15 rfl (lv_at hl 1 rfl) ?_
    cases hf
    rw [hQ]; exact g_lret hx hb hr hlk hP hS dX1_told_16
  · have hf := ifT ((lgc_eq _ _).mp c1) hf
    refine lv_ldc2 hx hb hown (hts _ q1335) dX1_told_9 ?_
    refine lv_goto (tgt := 16) hx hb dX1_told_12 (by decide) ?_
    cases hf
    rw [hQ]; exact g_lret hx hb hr hlk hP hS dX1_told_16
theorem kxX1_told_TB (l : Launch) (D : va_G) (G : Nat → ClassId) {dsc : Nat → Option Dsc} {ad : Nat → Nat} {σ : Sto} {nr nw nu : Nat} (hD : XD dsc nr nw nu) {x1 : Int64} {r_ : Int64} {z_TB_none : Int64} (e_zL1061 : σ.2.1 1061 = z_TB_none) (hf : xo_X1_told_TB z_TB_none x1 = some r_) : CtG l D G dsc ad yX1_told (ws_ yX1_told cX1_told 4 (Option.some Jvm.ClassFile.FieldType.long)) rmX1_told_TB [.ref (ad 1000), .long x1, .ref (ad 1060)] σ (some (.long r_)) σ := by
  subst e_zL1061
  exact p_ctG (by decide +kernel) (Nat.le_of_ble_eq_true rfl) (fun p e s m below meth c0 ls A E hP hX hA hS hl => wkX1_told_TB E hX hD hA hf rfl hP hS hl)
theorem cx_X1_330_X1_isPlace {rm : Room} {σ1 : Sto} {x1 : Int32} {r : Int32} (E : EN p s m args meth c0 RX1 cc nL ret) (hX : KX D G ad A s s.heap) (hD : XD dsc nr nw nu) (hP : PIC D clsA G dsc ad σ H) (hS : va_S A s.heap H locs) (hA : ∀ q, PA dsc ad s.heap.size q → A q) (hM : CtG l D G dsc ad yX1_isPlace (ws_ yX1_isPlace cX1_isPlace 2 (Option.some Jvm.ClassFile.FieldType.boolean)) rm [.ref (ad 1000), .int x1] σ (some (.int r)) σ1) (hz : rm.cells = 0 ∧ rm.slots = 0) (hR : rm.frames + 1 ≤ R.frames ∧ 8 + (2 + 11) + rm.locals ≤ R.locals) (hcs : cells ≤ R.cells ∧ slots ≤ R.slots) (hsz : ls.size = nL) (hW : (rest.map fun v => v.category).sum ≤ 8) (hdg : decode cc pc = .ok (.invokevirtual 330, 3)) (kk : ∀ (H1 : Heap) (locs1 : List Loc), PIC D clsA G dsc ad σ1 H1 → va_S A s.heap H1 locs1 → W p l e R s m args below meth c0 H1 locs1 cells slots Q (F0 m (pc + 3) ls (.int r :: rest))) : W p l e R s m args below meth c0 H locs cells slots Q (F0 m pc ls (.int x1 :: .ref (ad 1000) :: rest)) :=
  p_gV (As := [.int x1]) (rest := rest) E.1 hX hP hS hA hM (cwV 1 E.1.2.2.2.2 (lw_V q1363 q1365 qs31 q124 q1366) rfl hz.1 hz.2 (by decide +kernel) hR) (hD.1 _ _ dX_1000) rfl rfl rfl hsz rfl hW hdg hcs kk
theorem cx_X1_281_X1_isKnown {rm : Room} {σ1 : Sto} {x1 : Int32} {r : Int32} (E : EN p s m args meth c0 RX1 cc nL ret) (hX : KX D G ad A s s.heap) (hD : XD dsc nr nw nu) (hP : PIC D clsA G dsc ad σ H) (hS : va_S A s.heap H locs) (hA : ∀ q, PA dsc ad s.heap.size q → A q) (hM : CtG l D G dsc ad yX1_isKnown (ws_ yX1_isKnown cX1_isKnown 2 (Option.some Jvm.ClassFile.FieldType.boolean)) rm [.ref (ad 1000), .int x1] σ (some (.int r)) σ1) (hz : rm.cells = 0 ∧ rm.slots = 0) (hR : rm.frames + 1 ≤ R.frames ∧ 8 + (2 + 11) + rm.locals ≤ R.locals) (hcs : cells ≤ R.cells ∧ slots ≤ R.slots) (hsz : ls.size = nL) (hW : (rest.map fun v => v.category).sum ≤ 8) (hdg : decode cc pc = .ok (.invokevirtual 281, 3)) (kk : ∀ (H1 : Heap) (locs1 : List Loc), PIC D clsA G dsc ad σ1 H1 → va_S A s.heap H1 locs1 → W p l e R s m args below meth c0 H1 locs1 cells slots Q (F0 m (pc + 3) ls (.int r :: rest))) : W p l e R s m args below meth c0 H locs cells slots Q (F0 m pc ls (.int x1 :: .ref (ad 1000) :: rest)) :=
  p_gV (As := [.int x1]) (rest := rest) E.1 hX hP hS hA hM (cwV 1 E.1.2.2.2.2 (lw_V q1231 q1233 qs24 q124 q1234) rfl hz.1 hz.2 (by decide +kernel) hR) (hD.1 _ _ dX_1000) rfl rfl rfl hsz rfl hW hdg hcs kk
theorem cx_X1_343_X1_weigh {rm : Room} {σ1 : Sto} (E : EN p s m args meth c0 RX1 cc nL ret) (hX : KX D G ad A s s.heap) (hD : XD dsc nr nw nu) (hP : PIC D clsA G dsc ad σ H) (hS : va_S A s.heap H locs) (hA : ∀ q, PA dsc ad s.heap.size q → A q) (hM : CtG l D G dsc ad yX1_weigh (ws_ yX1_weigh cX1_weigh 1 (Option.none : Option Jvm.ClassFile.FieldType)) rm [.ref (ad 1000)] σ none σ1) (hz : rm.cells = 0 ∧ rm.slots = 0) (hR : rm.frames + 1 ≤ R.frames ∧ 8 + (1 + 11) + rm.locals ≤ R.locals) (hcs : cells ≤ R.cells ∧ slots ≤ R.slots) (hsz : ls.size = nL) (hW : (rest.map fun v => v.category).sum ≤ 8) (hdg : decode cc pc = .ok (.invokevirtual 343, 3)) (kk : ∀ (H1 : Heap) (locs1 : List Loc), PIC D clsA G dsc ad σ1 H1 → va_S A s.heap H1 locs1 → W p l e R s m args below meth c0 H1 locs1 cells slots Q (F0 m (pc + 3) ls (rest))) : W p l e R s m args below meth c0 H locs cells slots Q (F0 m pc ls (.ref (ad 1000) :: rest)) :=
  p_gV (As := []) (rest := rest) E.1 hX hP hS hA hM (cwV 0 E.1.2.2.2.2 (lw_V q1373 q1375 qs32 q124 q1376) rfl hz.1 hz.2 (by decide +kernel) hR) (hD.1 _ _ dX_1000) rfl rfl rfl hsz rfl hW hdg hcs kk
theorem cx_X1_346_X5_arriving_TB {rm : Room} {σ1 : Sto} {x1 : Int32} {x2 : Int32} {r : Int64} (E : EN p s m args meth c0 RX1 cc nL ret) (hX : KX D G ad A s s.heap) (hD : XD dsc nr nw nu) (hP : PIC D clsA G dsc ad σ H) (hS : va_S A s.heap H locs) (hA : ∀ q, PA dsc ad s.heap.size q → A q) (hM : CtG l D G dsc ad yX5_arriving (ws_ yX5_arriving cX5_arriving 3 (Option.some Jvm.ClassFile.FieldType.long)) rm [.ref (ad 1060), .int x1, .int x2] σ (some (.long r)) σ1) (hz : rm.cells = 0 ∧ rm.slots = 0) (hR : rm.frames + 1 ≤ R.frames ∧ 8 + (3 + 11) + rm.locals ≤ R.locals) (hcs : cells ≤ R.cells ∧ slots ≤ R.slots) (hsz : ls.size = nL) (hW : (rest.map fun v => v.category).sum ≤ 8) (hdg : decode cc pc = .ok (.invokevirtual 346, 3)) (kk : ∀ (H1 : Heap) (locs1 : List Loc), PIC D clsA G dsc ad σ1 H1 → va_S A s.heap H1 locs1 → W p l e R s m args below meth c0 H1 locs1 cells slots Q (F0 m (pc + 3) ls (.long r :: rest))) : W p l e R s m args below meth c0 H locs cells slots Q (F0 m pc ls (.int x2 :: .int x1 :: .ref (ad 1060) :: rest)) :=
  p_gU (As := [.int x1, .int x2]) (rest := rest) E.1 hX hP hS hA hM (cw_any (owner := "ShutPasses$Table") (x := ⟨"ShutPasses$InMean", "arriving", "(II)J"⟩) (y := yX5_arriving) (C := "ShutPasses$InMean") (index := 346) (own := RX1) 2 E.1.2.2.2.2 (lw_meth q1117) rfl hz.1 hz.2 (E.1.2.2.2.2 _ q1377) (E.1.2.2.2.2 _ q1378) (va_Decl.of (E.1.2.2.2.2 _ q1112) (E.1.2.2.2.2 _ q1117)) (E.1.2.2.2.2 _ q1380) (E.1.2.2.2.2 _ q1112) (E.1.2.2.2.2 _ q131) (by decide +kernel) hR) (hD.1 _ _ dX_1060) rfl rfl rfl hsz rfl hW hdg hcs kk
theorem cx_X1_350_X1_told_TB {rm : Room} {σ1 : Sto} {x1 : Int64} {r : Int64} (E : EN p s m args meth c0 RX1 cc nL ret) (hX : KX D G ad A s s.heap) (hD : XD dsc nr nw nu) (hP : PIC D clsA G dsc ad σ H) (hS : va_S A s.heap H locs) (hA : ∀ q, PA dsc ad s.heap.size q → A q) (hM : CtG l D G dsc ad yX1_told (ws_ yX1_told cX1_told 4 (Option.some Jvm.ClassFile.FieldType.long)) rm [.ref (ad 1000), .long x1, .ref (ad 1060)] σ (some (.long r)) σ1) (hz : rm.cells = 0 ∧ rm.slots = 0) (hR : rm.frames + 1 ≤ R.frames ∧ 8 + (4 + 11) + rm.locals ≤ R.locals) (hcs : cells ≤ R.cells ∧ slots ≤ R.slots) (hsz : ls.size = nL) (hW : (rest.map fun v => v.category).sum ≤ 8) (hdg : decode cc pc = .ok (.invokevirtual 350, 3)) (kk : ∀ (H1 : Heap) (locs1 : List Loc), PIC D clsA G dsc ad σ1 H1 → va_S A s.heap H1 locs1 → W p l e R s m args below meth c0 H1 locs1 cells slots Q (F0 m (pc + 3) ls (.long r :: rest))) : W p l e R s m args below meth c0 H locs cells slots Q (F0 m pc ls (.ref (ad 1060) :: .long x1 :: .ref (ad 1000) :: rest)) :=
  p_gV (As := [.long x1, .ref (ad 1060)]) (rest := rest) E.1 hX hP hS hA hM (cwV 2 E.1.2.2.2.2 (lw_V q1381 q1383 qs33 q124 q1384) rfl hz.1 hz.2 (by decide +kernel) hR) (hD.1 _ _ dX_1000) rfl rfl rfl hsz rfl hW hdg hcs kk
/-! X1_from (II)J -/
def sgX1_from (σ : Sto) (w0 : Int32) (w1 : Int32) (w2 : Int32) (w3 : Int64) (w4 : Nat → Int32) (w5 : Nat → Int32) (w6 : Nat → Int64) (w7 : Nat → Int64) (w8 : Nat → Int64) (w9 : Nat → Int64) : Sto := aL (aL (aL (aL (aI (aI (zL (zI (zI (zI σ 1018 w0) 1062 w1) 1082 w2) 1052 w3) 1108 w4) 1162 w5) 1140 w6) 1141 w7) 1150 w8) 1152 w9
theorem sgX1_from_self (σ : Sto) : sgX1_from σ (σ.1 1018) (σ.1 1062) (σ.1 1082) (σ.2.1 1052) (σ.2.2.1 1108) (σ.2.2.1 1162) (σ.2.2.2.1 1140) (σ.2.2.2.1 1141) (σ.2.2.2.1 1150) (σ.2.2.2.1 1152) = σ := by
  unfold sgX1_from
  simp only [zI_self, zL_self, aI_self, aL_self]
theorem sgX1_from_zI1018 {σ : Sto} {w0 : Int32} {w1 : Int32} {w2 : Int32} {w3 : Int64} {w4 : Nat → Int32} {w5 : Nat → Int32} {w6 : Nat → Int64} {w7 : Nat → Int64} {w8 : Nat → Int64} {w9 : Nat → Int64} {g : Int32} : zI (sgX1_from σ w0 w1 w2 w3 w4 w5 w6 w7 w8 w9) 1018 g = sgX1_from σ g w1 w2 w3 w4 w5 w6 w7 w8 w9 := (cm_zI_aL _ _ _ _ _).trans (congrArg (fun z => aL z 1152 w9) ((cm_zI_aL _ _ _ _ _).trans (congrArg (fun z => aL z 1150 w8) ((cm_zI_aL _ _ _ _ _).trans (congrArg (fun z => aL z 1141 w7) ((cm_zI_aL _ _ _ _ _).trans (congrArg (fun z => aL z 1140 w6) ((cm_zI_aI _ _ _ _ _).trans (congrArg (fun z => aI z 1162 w5) ((cm_zI_aI _ _ _ _ _).trans (congrArg (fun z => aI z 1108 w4) ((cm_zI_zL _ _ _ _ _).trans (congrArg (fun z => zL z 1052 w3) ((zI_comm _ (by decide) _ _).trans (congrArg (fun z => zI z 1082 w2) ((zI_comm _ (by decide) _ _).trans (congrArg (fun z => zI z 1062 w1) (zI_zI _ 1018 _ _))))))))))))))))))
theorem sgX1_from_zI1062 {σ : Sto} {w0 : Int32} {w1 : Int32} {w2 : Int32} {w3 : Int64} {w4 : Nat → Int32} {w5 : Nat → Int32} {w6 : Nat → Int64} {w7 : Nat → Int64} {w8 : Nat → Int64} {w9 : Nat → Int64} {g : Int32} : zI (sgX1_from σ w0 w1 w2 w3 w4 w5 w6 w7 w8 w9) 1062 g = sgX1_from σ w0 g w2 w3 w4 w5 w6 w7 w8 w9 := (cm_zI_aL _ _ _ _ _).trans (congrArg (fun z => aL z 1152 w9) ((cm_zI_aL _ _ _ _ _).trans (congrArg (fun z => aL z 1150 w8) ((cm_zI_aL _ _ _ _ _).trans (congrArg (fun z => aL z 1141 w7) ((cm_zI_aL _ _ _ _ _).trans (congrArg (fun z => aL z 1140 w6) ((cm_zI_aI _ _ _ _ _).trans (congrArg (fun z => aI z 1162 w5) ((cm_zI_aI _ _ _ _ _).trans (congrArg (fun z => aI z 1108 w4) ((cm_zI_zL _ _ _ _ _).trans (congrArg (fun z => zL z 1052 w3) ((zI_comm _ (by decide) _ _).trans (congrArg (fun z => zI z 1082 w2) (zI_zI _ 1062 _ _))))))))))))))))
theorem sgX1_from_zI1082 {σ : Sto} {w0 : Int32} {w1 : Int32} {w2 : Int32} {w3 : Int64} {w4 : Nat → Int32} {w5 : Nat → Int32} {w6 : Nat → Int64} {w7 : Nat → Int64} {w8 : Nat → Int64} {w9 : Nat → Int64} {g : Int32} : zI (sgX1_from σ w0 w1 w2 w3 w4 w5 w6 w7 w8 w9) 1082 g = sgX1_from σ w0 w1 g w3 w4 w5 w6 w7 w8 w9 := (cm_zI_aL _ _ _ _ _).trans (congrArg (fun z => aL z 1152 w9) ((cm_zI_aL _ _ _ _ _).trans (congrArg (fun z => aL z 1150 w8) ((cm_zI_aL _ _ _ _ _).trans (congrArg (fun z => aL z 1141 w7) ((cm_zI_aL _ _ _ _ _).trans (congrArg (fun z => aL z 1140 w6) ((cm_zI_aI _ _ _ _ _).trans (congrArg (fun z => aI z 1162 w5) ((cm_zI_aI _ _ _ _ _).trans (congrArg (fun z => aI z 1108 w4) ((cm_zI_zL _ _ _ _ _).trans (congrArg (fun z => zL z 1052 w3) (zI_zI _ 1082 _ _))))))))))))))
theorem sgX1_from_zL1052 {σ : Sto} {w0 : Int32} {w1 : Int32} {w2 : Int32} {w3 : Int64} {w4 : Nat → Int32} {w5 : Nat → Int32} {w6 : Nat → Int64} {w7 : Nat → Int64} {w8 : Nat → Int64} {w9 : Nat → Int64} {g : Int64} : zL (sgX1_from σ w0 w1 w2 w3 w4 w5 w6 w7 w8 w9) 1052 g = sgX1_from σ w0 w1 w2 g w4 w5 w6 w7 w8 w9 := (cm_zL_aL _ _ _ _ _).trans (congrArg (fun z => aL z 1152 w9) ((cm_zL_aL _ _ _ _ _).trans (congrArg (fun z => aL z 1150 w8) ((cm_zL_aL _ _ _ _ _).trans (congrArg (fun z => aL z 1141 w7) ((cm_zL_aL _ _ _ _ _).trans (congrArg (fun z => aL z 1140 w6) ((cm_zL_aI _ _ _ _ _).trans (congrArg (fun z => aI z 1162 w5) ((cm_zL_aI _ _ _ _ _).trans (congrArg (fun z => aI z 1108 w4) (zL_zL _ 1052 _ _))))))))))))
theorem sgX1_from_aI1108 {σ : Sto} {w0 : Int32} {w1 : Int32} {w2 : Int32} {w3 : Int64} {w4 : Nat → Int32} {w5 : Nat → Int32} {w6 : Nat → Int64} {w7 : Nat → Int64} {w8 : Nat → Int64} {w9 : Nat → Int64} {g : Nat → Int32} : aI (sgX1_from σ w0 w1 w2 w3 w4 w5 w6 w7 w8 w9) 1108 g = sgX1_from σ w0 w1 w2 w3 g w5 w6 w7 w8 w9 := (cm_aI_aL _ _ _ _ _).trans (congrArg (fun z => aL z 1152 w9) ((cm_aI_aL _ _ _ _ _).trans (congrArg (fun z => aL z 1150 w8) ((cm_aI_aL _ _ _ _ _).trans (congrArg (fun z => aL z 1141 w7) ((cm_aI_aL _ _ _ _ _).trans (congrArg (fun z => aL z 1140 w6) ((aI_comm _ (by decide) _ _).trans (congrArg (fun z => aI z 1162 w5) (aI_aI _ 1108 _ _))))))))))
theorem sgX1_from_aI1162 {σ : Sto} {w0 : Int32} {w1 : Int32} {w2 : Int32} {w3 : Int64} {w4 : Nat → Int32} {w5 : Nat → Int32} {w6 : Nat → Int64} {w7 : Nat → Int64} {w8 : Nat → Int64} {w9 : Nat → Int64} {g : Nat → Int32} : aI (sgX1_from σ w0 w1 w2 w3 w4 w5 w6 w7 w8 w9) 1162 g = sgX1_from σ w0 w1 w2 w3 w4 g w6 w7 w8 w9 := (cm_aI_aL _ _ _ _ _).trans (congrArg (fun z => aL z 1152 w9) ((cm_aI_aL _ _ _ _ _).trans (congrArg (fun z => aL z 1150 w8) ((cm_aI_aL _ _ _ _ _).trans (congrArg (fun z => aL z 1141 w7) ((cm_aI_aL _ _ _ _ _).trans (congrArg (fun z => aL z 1140 w6) (aI_aI _ 1162 _ _))))))))
theorem sgX1_from_aL1140 {σ : Sto} {w0 : Int32} {w1 : Int32} {w2 : Int32} {w3 : Int64} {w4 : Nat → Int32} {w5 : Nat → Int32} {w6 : Nat → Int64} {w7 : Nat → Int64} {w8 : Nat → Int64} {w9 : Nat → Int64} {g : Nat → Int64} : aL (sgX1_from σ w0 w1 w2 w3 w4 w5 w6 w7 w8 w9) 1140 g = sgX1_from σ w0 w1 w2 w3 w4 w5 g w7 w8 w9 := (aL_comm _ (by decide) _ _).trans (congrArg (fun z => aL z 1152 w9) ((aL_comm _ (by decide) _ _).trans (congrArg (fun z => aL z 1150 w8) ((aL_comm _ (by decide) _ _).trans (congrArg (fun z => aL z 1141 w7) (aL_aL _ 1140 _ _))))))
theorem sgX1_from_aL1141 {σ : Sto} {w0 : Int32} {w1 : Int32} {w2 : Int32} {w3 : Int64} {w4 : Nat → Int32} {w5 : Nat → Int32} {w6 : Nat → Int64} {w7 : Nat → Int64} {w8 : Nat → Int64} {w9 : Nat → Int64} {g : Nat → Int64} : aL (sgX1_from σ w0 w1 w2 w3 w4 w5 w6 w7 w8 w9) 1141 g = sgX1_from σ w0 w1 w2 w3 w4 w5 w6 g w8 w9 := (aL_comm _ (by decide) _ _).trans (congrArg (fun z => aL z 1152 w9) ((aL_comm _ (by decide) _ _).trans (congrArg (fun z => aL z 1150 w8) (aL_aL _ 1141 _ _))))
theorem sgX1_from_aL1150 {σ : Sto} {w0 : Int32} {w1 : Int32} {w2 : Int32} {w3 : Int64} {w4 : Nat → Int32} {w5 : Nat → Int32} {w6 : Nat → Int64} {w7 : Nat → Int64} {w8 : Nat → Int64} {w9 : Nat → Int64} {g : Nat → Int64} : aL (sgX1_from σ w0 w1 w2 w3 w4 w5 w6 w7 w8 w9) 1150 g = sgX1_from σ w0 w1 w2 w3 w4 w5 w6 w7 g w9 := (aL_comm _ (by decide) _ _).trans (congrArg (fun z => aL z 1152 w9) (aL_aL _ 1150 _ _))
theorem sgX1_from_aL1152 {σ : Sto} {w0 : Int32} {w1 : Int32} {w2 : Int32} {w3 : Int64} {w4 : Nat → Int32} {w5 : Nat → Int32} {w6 : Nat → Int64} {w7 : Nat → Int64} {w8 : Nat → Int64} {w9 : Nat → Int64} {g : Nat → Int64} : aL (sgX1_from σ w0 w1 w2 w3 w4 w5 w6 w7 w8 w9) 1152 g = sgX1_from σ w0 w1 w2 w3 w4 w5 w6 w7 w8 g := aL_aL _ 1152 _ _
theorem sgX1_from_rzI1018 {σ : Sto} {w0 : Int32} {w1 : Int32} {w2 : Int32} {w3 : Int64} {w4 : Nat → Int32} {w5 : Nat → Int32} {w6 : Nat → Int64} {w7 : Nat → Int64} {w8 : Nat → Int64} {w9 : Nat → Int64} : (sgX1_from σ w0 w1 w2 w3 w4 w5 w6 w7 w8 w9).1 1018 = w0 := rfl
theorem sgX1_from_rzI1062 {σ : Sto} {w0 : Int32} {w1 : Int32} {w2 : Int32} {w3 : Int64} {w4 : Nat → Int32} {w5 : Nat → Int32} {w6 : Nat → Int64} {w7 : Nat → Int64} {w8 : Nat → Int64} {w9 : Nat → Int64} : (sgX1_from σ w0 w1 w2 w3 w4 w5 w6 w7 w8 w9).1 1062 = w1 := rfl
theorem sgX1_from_rzI1082 {σ : Sto} {w0 : Int32} {w1 : Int32} {w2 : Int32} {w3 : Int64} {w4 : Nat → Int32} {w5 : Nat → Int32} {w6 : Nat → Int64} {w7 : Nat → Int64} {w8 : Nat → Int64} {w9 : Nat → Int64} : (sgX1_from σ w0 w1 w2 w3 w4 w5 w6 w7 w8 w9).1 1082 = w2 := rfl
theorem sgX1_from_rzI2008 {σ : Sto} {w0 : Int32} {w1 : Int32} {w2 : Int32} {w3 : Int64} {w4 : Nat → Int32} {w5 : Nat → Int32} {w6 : Nat → Int64} {w7 : Nat → Int64} {w8 : Nat → Int64} {w9 : Nat → Int64} : (sgX1_from σ w0 w1 w2 w3 w4 w5 w6 w7 w8 w9).1 2008 = σ.1 2008 := rfl
theorem sgX1_from_rzI2009 {σ : Sto} {w0 : Int32} {w1 : Int32} {w2 : Int32} {w3 : Int64} {w4 : Nat → Int32} {w5 : Nat → Int32} {w6 : Nat → Int64} {w7 : Nat → Int64} {w8 : Nat → Int64} {w9 : Nat → Int64} : (sgX1_from σ w0 w1 w2 w3 w4 w5 w6 w7 w8 w9).1 2009 = σ.1 2009 := rfl
theorem sgX1_from_rzI2012 {σ : Sto} {w0 : Int32} {w1 : Int32} {w2 : Int32} {w3 : Int64} {w4 : Nat → Int32} {w5 : Nat → Int32} {w6 : Nat → Int64} {w7 : Nat → Int64} {w8 : Nat → Int64} {w9 : Nat → Int64} : (sgX1_from σ w0 w1 w2 w3 w4 w5 w6 w7 w8 w9).1 2012 = σ.1 2012 := rfl
theorem sgX1_from_rzI2013 {σ : Sto} {w0 : Int32} {w1 : Int32} {w2 : Int32} {w3 : Int64} {w4 : Nat → Int32} {w5 : Nat → Int32} {w6 : Nat → Int64} {w7 : Nat → Int64} {w8 : Nat → Int64} {w9 : Nat → Int64} : (sgX1_from σ w0 w1 w2 w3 w4 w5 w6 w7 w8 w9).1 2013 = σ.1 2013 := rfl
theorem sgX1_from_rzI2027 {σ : Sto} {w0 : Int32} {w1 : Int32} {w2 : Int32} {w3 : Int64} {w4 : Nat → Int32} {w5 : Nat → Int32} {w6 : Nat → Int64} {w7 : Nat → Int64} {w8 : Nat → Int64} {w9 : Nat → Int64} : (sgX1_from σ w0 w1 w2 w3 w4 w5 w6 w7 w8 w9).1 2027 = σ.1 2027 := rfl
theorem sgX1_from_rzI2032 {σ : Sto} {w0 : Int32} {w1 : Int32} {w2 : Int32} {w3 : Int64} {w4 : Nat → Int32} {w5 : Nat → Int32} {w6 : Nat → Int64} {w7 : Nat → Int64} {w8 : Nat → Int64} {w9 : Nat → Int64} : (sgX1_from σ w0 w1 w2 w3 w4 w5 w6 w7 w8 w9).1 2032 = σ.1 2032 := rfl
theorem sgX1_from_rzL1052 {σ : Sto} {w0 : Int32} {w1 : Int32} {w2 : Int32} {w3 : Int64} {w4 : Nat → Int32} {w5 : Nat → Int32} {w6 : Nat → Int64} {w7 : Nat → Int64} {w8 : Nat → Int64} {w9 : Nat → Int64} : (sgX1_from σ w0 w1 w2 w3 w4 w5 w6 w7 w8 w9).2.1 1052 = w3 := rfl
theorem sgX1_from_rzL1061 {σ : Sto} {w0 : Int32} {w1 : Int32} {w2 : Int32} {w3 : Int64} {w4 : Nat → Int32} {w5 : Nat → Int32} {w6 : Nat → Int64} {w7 : Nat → Int64} {w8 : Nat → Int64} {w9 : Nat → Int64} : (sgX1_from σ w0 w1 w2 w3 w4 w5 w6 w7 w8 w9).2.1 1061 = σ.2.1 1061 := rfl
theorem sgX1_from_rzL1081 {σ : Sto} {w0 : Int32} {w1 : Int32} {w2 : Int32} {w3 : Int64} {w4 : Nat → Int32} {w5 : Nat → Int32} {w6 : Nat → Int64} {w7 : Nat → Int64} {w8 : Nat → Int64} {w9 : Nat → Int64} : (sgX1_from σ w0 w1 w2 w3 w4 w5 w6 w7 w8 w9).2.1 1081 = σ.2.1 1081 := rfl
theorem sgX1_from_raI1108 {σ : Sto} {w0 : Int32} {w1 : Int32} {w2 : Int32} {w3 : Int64} {w4 : Nat → Int32} {w5 : Nat → Int32} {w6 : Nat → Int64} {w7 : Nat → Int64} {w8 : Nat → Int64} {w9 : Nat → Int64} : (sgX1_from σ w0 w1 w2 w3 w4 w5 w6 w7 w8 w9).2.2.1 1108 = w4 := rfl
theorem sgX1_from_raI1162 {σ : Sto} {w0 : Int32} {w1 : Int32} {w2 : Int32} {w3 : Int64} {w4 : Nat → Int32} {w5 : Nat → Int32} {w6 : Nat → Int64} {w7 : Nat → Int64} {w8 : Nat → Int64} {w9 : Nat → Int64} : (sgX1_from σ w0 w1 w2 w3 w4 w5 w6 w7 w8 w9).2.2.1 1162 = w5 := rfl
theorem sgX1_from_raI1170 {σ : Sto} {w0 : Int32} {w1 : Int32} {w2 : Int32} {w3 : Int64} {w4 : Nat → Int32} {w5 : Nat → Int32} {w6 : Nat → Int64} {w7 : Nat → Int64} {w8 : Nat → Int64} {w9 : Nat → Int64} : (sgX1_from σ w0 w1 w2 w3 w4 w5 w6 w7 w8 w9).2.2.1 1170 = σ.2.2.1 1170 := rfl
theorem sgX1_from_raI2036 {σ : Sto} {w0 : Int32} {w1 : Int32} {w2 : Int32} {w3 : Int64} {w4 : Nat → Int32} {w5 : Nat → Int32} {w6 : Nat → Int64} {w7 : Nat → Int64} {w8 : Nat → Int64} {w9 : Nat → Int64} : (sgX1_from σ w0 w1 w2 w3 w4 w5 w6 w7 w8 w9).2.2.1 2036 = σ.2.2.1 2036 := rfl
theorem sgX1_from_raI2037 {σ : Sto} {w0 : Int32} {w1 : Int32} {w2 : Int32} {w3 : Int64} {w4 : Nat → Int32} {w5 : Nat → Int32} {w6 : Nat → Int64} {w7 : Nat → Int64} {w8 : Nat → Int64} {w9 : Nat → Int64} : (sgX1_from σ w0 w1 w2 w3 w4 w5 w6 w7 w8 w9).2.2.1 2037 = σ.2.2.1 2037 := rfl
theorem sgX1_from_raI2042 {σ : Sto} {w0 : Int32} {w1 : Int32} {w2 : Int32} {w3 : Int64} {w4 : Nat → Int32} {w5 : Nat → Int32} {w6 : Nat → Int64} {w7 : Nat → Int64} {w8 : Nat → Int64} {w9 : Nat → Int64} : (sgX1_from σ w0 w1 w2 w3 w4 w5 w6 w7 w8 w9).2.2.1 2042 = σ.2.2.1 2042 := rfl
theorem sgX1_from_raI2043 {σ : Sto} {w0 : Int32} {w1 : Int32} {w2 : Int32} {w3 : Int64} {w4 : Nat → Int32} {w5 : Nat → Int32} {w6 : Nat → Int64} {w7 : Nat → Int64} {w8 : Nat → Int64} {w9 : Nat → Int64} : (sgX1_from σ w0 w1 w2 w3 w4 w5 w6 w7 w8 w9).2.2.1 2043 = σ.2.2.1 2043 := rfl
theorem sgX1_from_raL1140 {σ : Sto} {w0 : Int32} {w1 : Int32} {w2 : Int32} {w3 : Int64} {w4 : Nat → Int32} {w5 : Nat → Int32} {w6 : Nat → Int64} {w7 : Nat → Int64} {w8 : Nat → Int64} {w9 : Nat → Int64} : (sgX1_from σ w0 w1 w2 w3 w4 w5 w6 w7 w8 w9).2.2.2.1 1140 = w6 := rfl
theorem sgX1_from_raL1141 {σ : Sto} {w0 : Int32} {w1 : Int32} {w2 : Int32} {w3 : Int64} {w4 : Nat → Int32} {w5 : Nat → Int32} {w6 : Nat → Int64} {w7 : Nat → Int64} {w8 : Nat → Int64} {w9 : Nat → Int64} : (sgX1_from σ w0 w1 w2 w3 w4 w5 w6 w7 w8 w9).2.2.2.1 1141 = w7 := rfl
theorem sgX1_from_raL1150 {σ : Sto} {w0 : Int32} {w1 : Int32} {w2 : Int32} {w3 : Int64} {w4 : Nat → Int32} {w5 : Nat → Int32} {w6 : Nat → Int64} {w7 : Nat → Int64} {w8 : Nat → Int64} {w9 : Nat → Int64} : (sgX1_from σ w0 w1 w2 w3 w4 w5 w6 w7 w8 w9).2.2.2.1 1150 = w8 := rfl
theorem sgX1_from_raL1152 {σ : Sto} {w0 : Int32} {w1 : Int32} {w2 : Int32} {w3 : Int64} {w4 : Nat → Int32} {w5 : Nat → Int32} {w6 : Nat → Int64} {w7 : Nat → Int64} {w8 : Nat → Int64} {w9 : Nat → Int64} : (sgX1_from σ w0 w1 w2 w3 w4 w5 w6 w7 w8 w9).2.2.2.1 1152 = w9 := rfl
theorem sgX1_from_rpR2 {σ : Sto} {w0 : Int32} {w1 : Int32} {w2 : Int32} {w3 : Int64} {w4 : Nat → Int32} {w5 : Nat → Int32} {w6 : Nat → Int64} {w7 : Nat → Int64} {w8 : Nat → Int64} {w9 : Nat → Int64} : (fun k => (sgX1_from σ w0 w1 w2 w3 w4 w5 w6 w7 w8 w9).1 (6000 + 16 * k + 2)) = (fun k => σ.1 (6000 + 16 * k + 2)) := by
  funext k
  unfold sgX1_from
  dsimp only [zI, zL, aI, aL]
  repeat rw [if_neg (by omega)]
theorem sgX1_from_rpR3 {σ : Sto} {w0 : Int32} {w1 : Int32} {w2 : Int32} {w3 : Int64} {w4 : Nat → Int32} {w5 : Nat → Int32} {w6 : Nat → Int64} {w7 : Nat → Int64} {w8 : Nat → Int64} {w9 : Nat → Int64} : (fun k => (sgX1_from σ w0 w1 w2 w3 w4 w5 w6 w7 w8 w9).1 (6000 + 16 * k + 3)) = (fun k => σ.1 (6000 + 16 * k + 3)) := by
  funext k
  unfold sgX1_from
  dsimp only [zI, zL, aI, aL]
  repeat rw [if_neg (by omega)]
theorem sgX1_from_rpR4 {σ : Sto} {w0 : Int32} {w1 : Int32} {w2 : Int32} {w3 : Int64} {w4 : Nat → Int32} {w5 : Nat → Int32} {w6 : Nat → Int64} {w7 : Nat → Int64} {w8 : Nat → Int64} {w9 : Nat → Int64} : (fun k => (sgX1_from σ w0 w1 w2 w3 w4 w5 w6 w7 w8 w9).1 (6000 + 16 * k + 4)) = (fun k => σ.1 (6000 + 16 * k + 4)) := by
  funext k
  unfold sgX1_from
  dsimp only [zI, zL, aI, aL]
  repeat rw [if_neg (by omega)]
theorem sgX1_from_rpR5 {σ : Sto} {w0 : Int32} {w1 : Int32} {w2 : Int32} {w3 : Int64} {w4 : Nat → Int32} {w5 : Nat → Int32} {w6 : Nat → Int64} {w7 : Nat → Int64} {w8 : Nat → Int64} {w9 : Nat → Int64} : (fun k => (sgX1_from σ w0 w1 w2 w3 w4 w5 w6 w7 w8 w9).1 (6000 + 16 * k + 5)) = (fun k => σ.1 (6000 + 16 * k + 5)) := by
  funext k
  unfold sgX1_from
  dsimp only [zI, zL, aI, aL]
  repeat rw [if_neg (by omega)]
theorem sgX1_from_rpR6 {σ : Sto} {w0 : Int32} {w1 : Int32} {w2 : Int32} {w3 : Int64} {w4 : Nat → Int32} {w5 : Nat → Int32} {w6 : Nat → Int64} {w7 : Nat → Int64} {w8 : Nat → Int64} {w9 : Nat → Int64} : (fun k => (sgX1_from σ w0 w1 w2 w3 w4 w5 w6 w7 w8 w9).1 (6000 + 16 * k + 6)) = (fun k => σ.1 (6000 + 16 * k + 6)) := by
  funext k
  unfold sgX1_from
  dsimp only [zI, zL, aI, aL]
  repeat rw [if_neg (by omega)]
theorem sgX1_from_rpW0 {σ : Sto} {w0 : Int32} {w1 : Int32} {w2 : Int32} {w3 : Int64} {w4 : Nat → Int32} {w5 : Nat → Int32} {w6 : Nat → Int64} {w7 : Nat → Int64} {w8 : Nat → Int64} {w9 : Nat → Int64} : (fun k => (sgX1_from σ w0 w1 w2 w3 w4 w5 w6 w7 w8 w9).1 (8000 + 16 * k + 0)) = (fun k => σ.1 (8000 + 16 * k + 0)) := by
  funext k
  unfold sgX1_from
  dsimp only [zI, zL, aI, aL]
  repeat rw [if_neg (by omega)]
theorem sgX1_from_rpW1 {σ : Sto} {w0 : Int32} {w1 : Int32} {w2 : Int32} {w3 : Int64} {w4 : Nat → Int32} {w5 : Nat → Int32} {w6 : Nat → Int64} {w7 : Nat → Int64} {w8 : Nat → Int64} {w9 : Nat → Int64} : (fun k => (sgX1_from σ w0 w1 w2 w3 w4 w5 w6 w7 w8 w9).1 (8000 + 16 * k + 1)) = (fun k => σ.1 (8000 + 16 * k + 1)) := by
  funext k
  unfold sgX1_from
  dsimp only [zI, zL, aI, aL]
  repeat rw [if_neg (by omega)]
theorem sgX1_from_rpW2 {σ : Sto} {w0 : Int32} {w1 : Int32} {w2 : Int32} {w3 : Int64} {w4 : Nat → Int32} {w5 : Nat → Int32} {w6 : Nat → Int64} {w7 : Nat → Int64} {w8 : Nat → Int64} {w9 : Nat → Int64} : (fun k => (sgX1_from σ w0 w1 w2 w3 w4 w5 w6 w7 w8 w9).1 (8000 + 16 * k + 2)) = (fun k => σ.1 (8000 + 16 * k + 2)) := by
  funext k
  unfold sgX1_from
  dsimp only [zI, zL, aI, aL]
  repeat rw [if_neg (by omega)]
theorem sgX1_from_rgG0 {σ : Sto} {w0 : Int32} {w1 : Int32} {w2 : Int32} {w3 : Int64} {w4 : Nat → Int32} {w5 : Nat → Int32} {w6 : Nat → Int64} {w7 : Nat → Int64} {w8 : Nat → Int64} {w9 : Nat → Int64} : (fun k => (sgX1_from σ w0 w1 w2 w3 w4 w5 w6 w7 w8 w9).2.2.1 (4000 + 16 * k)) = (fun k => σ.2.2.1 (4000 + 16 * k)) := by
  funext k
  unfold sgX1_from
  dsimp only [zI, zL, aI, aL]
  repeat rw [if_neg (by omega)]
abbrev rmX1_from : Room := { frames := 50, cells := 0, slots := 0, locals := 1357 }
set_option maxHeartbeats 4000000 in
theorem wkX1_from {x1 : Int32} {x2 : Int32} {r_ : Int64} {w_zI1018 : Int32} {w_zI1062 : Int32} {w_zI1082 : Int32} {w_zL1052 : Int64} {w_aI1108 : Nat → Int32} {w_aI1162 : Nat → Int32} {w_aL1140 : Nat → Int64} {w_aL1141 : Nat → Int64} {w_aL1150 : Nat → Int64} {w_aL1152 : Nat → Int64} (E : EN p s m args meth c0 RX1 cX1_from 3 (Option.some Jvm.ClassFile.FieldType.long)) (hX : KX D G ad A s s.heap) (hD : XD dsc nr nw nu) (hA : ∀ q, PA dsc ad s.heap.size q → A q) (hf : xo_X1_from (σ.1 1018) (σ.1 1062) (σ.1 1082) (σ.1 2008) (σ.1 2009) (σ.1 2012) (σ.1 2013) (σ.1 2027) (σ.1 2032) (σ.2.1 1052) (σ.2.1 1061) (σ.2.1 1081) (σ.2.2.1 1108) (σ.2.2.1 1162) (σ.2.2.1 1170) (σ.2.2.1 2036) (σ.2.2.1 2037) (σ.2.2.1 2042) (σ.2.2.1 2043) (σ.2.2.2.1 1140) (σ.2.2.2.1 1141) (σ.2.2.2.1 1150) (σ.2.2.2.1 1152) nr nw (fun k => σ.1 (6000 + 16 * k + 2)) (fun k => σ.1 (6000 + 16 * k + 3)) (fun k => σ.1 (6000 + 16 * k + 4)) (fun k => σ.1 (6000 + 16 * k + 5)) (fun k => σ.1 (6000 + 16 * k + 6)) (fun k => σ.1 (8000 + 16 * k + 0)) (fun k => σ.1 (8000 + 16 * k + 1)) (fun k => σ.1 (8000 + 16 * k + 2)) (fun k => σ.2.2.1 (4000 + 16 * k)) x1 x2 = some (r_, w_zI1018, w_zI1062, w_zI1082, w_zL1052, w_aI1108, w_aI1162, w_aL1140, w_aL1141, w_aL1150, w_aL1152)) (hQ : Q = MQ below (va_G1 (some (.long r_)) (fun t => PIC D clsA G dsc ad (sgX1_from σ w_zI1018 w_zI1062 w_zI1082 w_zL1052 w_aI1108 w_aI1162 w_aL1140 w_aL1141 w_aL1150 w_aL1152) t.heap) A) args s 0 0 A) (hP : PIC D clsA G dsc ad σ H) (hS : va_S A s.heap H locs) (hl : lv_has ls 3 [(0, .ref (ad 1000)), (1, .int x1), (2, .int x2)]) : W p l e rmX1_from s m args below meth c0 H locs 0 0 Q (F0 m 0 ls []) := by
  obtain ⟨⟨hx, hb, hml, hown, hts⟩, hr, hlk⟩ := id E
  have hP := hP.to (sgX1_from_self σ).symm
  unfold xo_X1_from at hf
  refine lv_aload_n hx hb dX1_from_0 rfl (lv_at hl 0 rfl) ?_
  refine lv_iload_n hx hb dX1_from_1 rfl (lv_at hl 1 rfl) ?_
  obtain ⟨v1, u2, hf⟩ := bdP hf
  refine cx_X1_330_X1_isPlace E hX hD hP hS hA (kxX1_isPlace l D G hD sgX1_from_rzI2008 u2) ⟨rfl, rfl⟩ ⟨Nat.le_of_ble_eq_true rfl, Nat.le_of_ble_eq_true rfl⟩ ⟨Nat.zero_le _, Nat.zero_le _⟩ hl.1 (Nat.le_of_ble_eq_true rfl) dX1_from_2 (fun H locs hP hS => ?_)
  have J27 : xo_X1_from_J27 (σ.1 1018) (σ.1 1062) (σ.1 1082) (σ.2.1 1052) (σ.2.2.1 1108) (σ.2.2.1 1162) (σ.2.2.2.1 1140) (σ.2.2.2.1 1141) (σ.2.2.2.1 1150) (σ.2.2.2.1 1152) = some (r_, w_zI1018, w_zI1062, w_zI1082, w_zL1052, w_aI1108, w_aI1162, w_aL1140, w_aL1141, w_aL1150, w_aL1152) → ∀ (H : Heap) (locs : List Loc), PIC D clsA G dsc ad (sgX1_from σ (σ.1 1018) (σ.1 1062) (σ.1 1082) (σ.2.1 1052) (σ.2.2.1 1108) (σ.2.2.1 1162) (σ.2.2.2.1 1140) (σ.2.2.2.1 1141) (σ.2.2.2.1 1150) (σ.2.2.2.1 1152)) H → va_S A s.heap H locs → ∀ (ls : Array Slot), lv_has ls 3 [] → W p l e rmX1_from s m args below meth c0 H locs 0 0 Q (F0 m 27 ls []) := by
    intro  hf H locs hP hS ls hl
    unfold xo_X1_from_J27 at hf
    refine lv_ldc2 hx hb hown (hts _ q996) dX1_from_27 ?_
    cases hf
    rw [hQ]; exact g_lret hx hb hr hlk hP hS dX1_from_30
  refine lv_if_eq (tgt := 27) hx hb dX1_from_5 (by decide) (fun c3 => ?_) (fun c3 => ?_)
  · have hf := ifT c3 hf
    exact J27  hf H locs hP hS ls (lv_sub hl [] rfl)
  · have hf := ifF c3 hf
    refine lv_aload_n hx hb dX1_from_8 rfl (lv_at hl 0 rfl) ?_
    refine lv_iload_n hx hb dX1_from_9 rfl (lv_at hl 2 rfl) ?_
    obtain ⟨v4, u5, hf⟩ := bdP hf
    refine cx_X1_281_X1_isKnown E hX hD hP hS hA (kxX1_isKnown l D G hD sgX1_from_rzI2027 sgX1_from_raI1170 u5) ⟨rfl, rfl⟩ ⟨Nat.le_of_ble_eq_true rfl, Nat.le_of_ble_eq_true rfl⟩ ⟨Nat.zero_le _, Nat.zero_le _⟩ hl.1 (Nat.le_of_ble_eq_true rfl) dX1_from_10 (fun H locs hP hS => ?_)
    refine lv_if_eq (tgt := 27) hx hb dX1_from_13 (by decide) (fun c6 => ?_) (fun c6 => ?_)
    · have hf := ifT c6 hf
      exact J27  hf H locs hP hS ls (lv_sub hl [] rfl)
    · have hf := ifF c6 hf
      refine lv_aload_n hx hb dX1_from_16 rfl (lv_at hl 0 rfl) ?_
      refine gx_X1_33_1000 E hX hD hP dX1_from_17 ?_
      refine gx_X1_256_2000 (v := (σ.1 2013)) E hX hD hP sgX1_from_rzI2013 dX1_from_20 ?_
      refine lv_iconst hx hb dX1_from_23 ic_m1 ?_
      refine lv_icmp_ne (tgt := 31) hx hb dX1_from_24 (by decide) (fun c7 => ?_) (fun c7 => ?_)
      · have hf := ifF c7 hf
        refine lv_aload_n hx hb dX1_from_31 rfl (lv_at hl 0 rfl) ?_
        obtain ⟨⟨z8, z9, z10, z11, a12, a13, a14, a15, a16, a17⟩, u18, hf⟩ := bdP hf
        dsimp only at hf
        refine cx_X1_343_X1_weigh E hX hD hP hS hA (kxX1_weigh l D G hD sgX1_from_rzI1018 sgX1_from_rzI1062 sgX1_from_rzI1082 sgX1_from_rzI2008 sgX1_from_rzI2009 sgX1_from_rzI2012 sgX1_from_rzI2013 sgX1_from_rzI2027 sgX1_from_rzI2032 sgX1_from_rzL1052 sgX1_from_rzL1061 sgX1_from_rzL1081 sgX1_from_raI1108 sgX1_from_raI1162 sgX1_from_raI1170 sgX1_from_raI2036 sgX1_from_raI2037 sgX1_from_raI2042 sgX1_from_raI2043 sgX1_from_raL1140 sgX1_from_raL1141 sgX1_from_raL1150 sgX1_from_raL1152 rfl rfl sgX1_from_rpR2 sgX1_from_rpR3 sgX1_from_rpR4 sgX1_from_rpR5 sgX1_from_rpR6 sgX1_from_rpW0 sgX1_from_rpW1 sgX1_from_rpW2 sgX1_from_rgG0 u18) ⟨rfl, rfl⟩ ⟨Nat.le_of_ble_eq_true rfl, Nat.le_of_ble_eq_true rfl⟩ ⟨Nat.zero_le _, Nat.zero_le _⟩ hl.1 (Nat.le_of_ble_eq_true rfl) dX1_from_32 (fun H locs hP hS => ?_)
        rw [sgX1_from_zI1018, sgX1_from_zI1062, sgX1_from_zI1082, sgX1_from_zL1052, sgX1_from_aI1108, sgX1_from_aI1162, sgX1_from_aL1140, sgX1_from_aL1141, sgX1_from_aL1150, sgX1_from_aL1152] at hP
        refine lv_aload_n hx hb dX1_from_35 rfl (lv_at hl 0 rfl) ?_
        refine gx_X1_40_1000 E hX hD hP dX1_from_36 ?_
        refine gx_X1_284_1050 E hX hD hP dX1_from_39 ?_
        refine lv_iload_n hx hb dX1_from_42 rfl (lv_at hl 2 rfl) ?_
        obtain ⟨v19, hv19, hf⟩ := bdP hf
        refine p_lald hx hb hX.1 hP (hD.1 _ _ dX_1141) sgX1_from_raL1141 hv19 dX1_from_43 ?_
        refine lv_lconst hx hb dX1_from_44 lc_0 ?_
        refine W.lcmp hx hb dX1_from_45 ?_
        refine lv_if_ne (tgt := 55) hx hb dX1_from_46 (by decide) (fun c20 => ?_) (fun c20 => ?_)
        · have hf := ifF (mt (lgc_eq _ _).mpr c20) hf
          refine lv_aload_n hx hb dX1_from_55 rfl (lv_at hl 0 rfl) ?_
          refine lv_aload_n hx hb dX1_from_56 rfl (lv_at hl 0 rfl) ?_
          refine gx_X1_53_1000 E hX hD hP dX1_from_57 ?_
          refine lv_iload_n hx hb dX1_from_60 rfl (lv_at hl 1 rfl) ?_
          refine lv_iload_n hx hb dX1_from_61 rfl (lv_at hl 2 rfl) ?_
          obtain ⟨v21, u22, hf⟩ := bdP hf
          refine cx_X1_346_X5_arriving_TB E hX hD hP hS hA (kxX5_arriving_TB l D G hD sgX1_from_rzI1062 sgX1_from_rzI2013 sgX1_from_rzI2027 sgX1_from_rzL1061 sgX1_from_raI1170 sgX1_from_raI2043 sgX1_from_raL1141 sgX1_from_raL1150 u22) ⟨rfl, rfl⟩ ⟨Nat.le_of_ble_eq_true rfl, Nat.le_of_ble_eq_true rfl⟩ ⟨Nat.zero_le _, Nat.zero_le _⟩ hl.1 (Nat.le_of_ble_eq_true rfl) dX1_from_62 (fun H locs hP hS => ?_)
          refine lv_aload_n hx hb dX1_from_65 rfl (lv_at hl 0 rfl) ?_
          refine gx_X1_53_1000 E hX hD hP dX1_from_66 ?_
          obtain ⟨v23, u24, hf⟩ := bdP hf
          refine cx_X1_350_X1_told_TB E hX hD hP hS hA (kxX1_told_TB l D G hD sgX1_from_rzL1061 u24) ⟨rfl, rfl⟩ ⟨Nat.le_of_ble_eq_true rfl, Nat.le_of_ble_eq_true rfl⟩ ⟨Nat.zero_le _, Nat.zero_le _⟩ hl.1 (Nat.le_of_ble_eq_true rfl) dX1_from_69 (fun H locs hP hS => ?_)
          cases hf
          rw [hQ]; exact g_lret hx hb hr hlk hP hS dX1_from_72
        · have hf := ifT ((lgc_eq _ _).mp c20) hf
          refine lv_ldc2 hx hb hown (hts _ q996) dX1_from_49 ?_
          refine lv_goto (tgt := 72) hx hb dX1_from_52 (by decide) ?_
          cases hf
          rw [hQ]; exact g_lret hx hb hr hlk hP hS dX1_from_72
      · have hf := ifT c7 hf
        exact J27  hf H locs hP hS ls (lv_sub hl [] rfl)
theorem kxX1_from (l : Launch) (D : va_G) (G : Nat → ClassId) {dsc : Nat → Option Dsc} {ad : Nat → Nat} {σ : Sto} {nr nw nu : Nat} (hD : XD dsc nr nw nu) {x1 : Int32} {x2 : Int32} {r_ : Int64} {w_zI1018 : Int32} {w_zI1062 : Int32} {w_zI1082 : Int32} {w_zL1052 : Int64} {w_aI1108 : Nat → Int32} {w_aI1162 : Nat → Int32} {w_aL1140 : Nat → Int64} {w_aL1141 : Nat → Int64} {w_aL1150 : Nat → Int64} {w_aL1152 : Nat → Int64} {z_X_isLaid : Int32} (e_zI1018 : σ.1 1018 = z_X_isLaid) {z_TB_by : Int32} (e_zI1062 : σ.1 1062 = z_TB_by) {z_TS_by : Int32} (e_zI1082 : σ.1 1082 = z_TS_by) {z_L_places : Int32} (e_zI2008 : σ.1 2008 = z_L_places) {z_L_causes : Int32} (e_zI2009 : σ.1 2009 = z_L_causes) {z_L_from : Int32} (e_zI2012 : σ.1 2012 = z_L_from) {z_L_to : Int32} (e_zI2013 : σ.1 2013 = z_L_to) {z_Ld_size : Int32} (e_zI2027 : σ.1 2027 = z_Ld_size) {z_Lw_size : Int32} (e_zI2032 : σ.1 2032 = z_Lw_size) {z_W_all : Int64} (e_zL1052 : σ.2.1 1052 = z_W_all) {z_TB_none : Int64} (e_zL1061 : σ.2.1 1061 = z_TB_none) {z_TS_none : Int64} (e_zL1081 : σ.2.1 1081 = z_TS_none) {a_X_knowing : Nat → Int32} (e_aI1108 : σ.2.2.1 1108 = a_X_knowing) {a_p3_far : Nat → Int32} (e_aI1162 : σ.2.2.1 1162 = a_p3_far) {a_UNIT : Nat → Int32} (e_aI1170 : σ.2.2.1 1170 = a_UNIT) {a_Ld_data : Nat → Int32} (e_aI2036 : σ.2.2.1 2036 = a_Ld_data) {a_Lw_data : Nat → Int32} (e_aI2037 : σ.2.2.1 2037 = a_Lw_data) {a_L_comes : Nat → Int32} (e_aI2042 : σ.2.2.1 2042 = a_L_comes) {a_L_seen : Nat → Int32} (e_aI2043 : σ.2.2.1 2043 = a_L_seen) {a_W_world : Nat → Int64} (e_aL1140 : σ.2.2.2.1 1140 = a_W_world) {a_W_likely : Nat → Int64} (e_aL1141 : σ.2.2.2.1 1141 = a_W_likely) {a_TB_value : Nat → Int64} (e_aL1150 : σ.2.2.2.1 1150 = a_TB_value) {a_TS_value : Nat → Int64} (e_aL1152 : σ.2.2.2.1 1152 = a_TS_value) {n_r : Nat} (e_nN0 : nr = n_r) {n_w : Nat} (e_nN1 : nw = n_w) {p_road_hours : Nat → Int32} (e_pR2 : (fun k => σ.1 (6000 + 16 * k + 2)) = p_road_hours) {p_road_doubt : Nat → Int32} (e_pR3 : (fun k => σ.1 (6000 + 16 * k + 3)) = p_road_doubt) {p_road_cause : Nat → Int32} (e_pR4 : (fun k => σ.1 (6000 + 16 * k + 4)) = p_road_cause) {p_road_wait : Nat → Int32} (e_pR5 : (fun k => σ.1 (6000 + 16 * k + 5)) = p_road_wait) {p_road_number : Nat → Int32} (e_pR6 : (fun k => σ.1 (6000 + 16 * k + 6)) = p_road_number) {p_word_place : Nat → Int32} (e_pW0 : (fun k => σ.1 (8000 + 16 * k + 0)) = p_word_place) {p_word_road : Nat → Int32} (e_pW1 : (fun k => σ.1 (8000 + 16 * k + 1)) = p_word_road) {p_word_hours : Nat → Int32} (e_pW2 : (fun k => σ.1 (8000 + 16 * k + 2)) = p_word_hours) {g_grid : Nat → Nat → Int32} (e_gG0 : (fun k => σ.2.2.1 (4000 + 16 * k)) = g_grid) (hf : xo_X1_from z_X_isLaid z_TB_by z_TS_by z_L_places z_L_causes z_L_from z_L_to z_Ld_size z_Lw_size z_W_all z_TB_none z_TS_none a_X_knowing a_p3_far a_UNIT a_Ld_data a_Lw_data a_L_comes a_L_seen a_W_world a_W_likely a_TB_value a_TS_value n_r n_w p_road_hours p_road_doubt p_road_cause p_road_wait p_road_number p_word_place p_word_road p_word_hours g_grid x1 x2 = some (r_, w_zI1018, w_zI1062, w_zI1082, w_zL1052, w_aI1108, w_aI1162, w_aL1140, w_aL1141, w_aL1150, w_aL1152)) : CtG l D G dsc ad yX1_from (ws_ yX1_from cX1_from 3 (Option.some Jvm.ClassFile.FieldType.long)) rmX1_from [.ref (ad 1000), .int x1, .int x2] σ (some (.long r_)) (aL (aL (aL (aL (aI (aI (zL (zI (zI (zI σ 1018 w_zI1018) 1062 w_zI1062) 1082 w_zI1082) 1052 w_zL1052) 1108 w_aI1108) 1162 w_aI1162) 1140 w_aL1140) 1141 w_aL1141) 1150 w_aL1150) 1152 w_aL1152) := by
  subst e_zI1018
  subst e_zI1062
  subst e_zI1082
  subst e_zI2008
  subst e_zI2009
  subst e_zI2012
  subst e_zI2013
  subst e_zI2027
  subst e_zI2032
  subst e_zL1052
  subst e_zL1061
  subst e_zL1081
  subst e_aI1108
  subst e_aI1162
  subst e_aI1170
  subst e_aI2036
  subst e_aI2037
  subst e_aI2042
  subst e_aI2043
  subst e_aL1140
  subst e_aL1141
  subst e_aL1150
  subst e_aL1152
  subst e_nN0
  subst e_nN1
  subst e_pR2
  subst e_pR3
  subst e_pR4
  subst e_pR5
  subst e_pR6
  subst e_pW0
  subst e_pW1
  subst e_pW2
  subst e_gG0
  exact p_ctG (by decide +kernel) (Nat.le_of_ble_eq_true rfl) (fun p e s m below meth c0 ls A E hP hX hA hS hl => wkX1_from E hX hD hA hf rfl hP hS hl)
/-! X1_go (I)I -/
def sgX1_go (σ : Sto) (w0 : Int32) (w1 : Nat → Int32) (w2 : Nat → Int32) (w3 : Nat → Int32) : Sto := aI (aI (aI (zI σ 1029 w0) 1130 w1) 1131 w2) 1132 w3
theorem sgX1_go_self (σ : Sto) : sgX1_go σ (σ.1 1029) (σ.2.2.1 1130) (σ.2.2.1 1131) (σ.2.2.1 1132) = σ := by
  unfold sgX1_go
  simp only [zI_self, zL_self, aI_self, aL_self]
theorem sgX1_go_zI1029 {σ : Sto} {w0 : Int32} {w1 : Nat → Int32} {w2 : Nat → Int32} {w3 : Nat → Int32} {g : Int32} : zI (sgX1_go σ w0 w1 w2 w3) 1029 g = sgX1_go σ g w1 w2 w3 := (cm_zI_aI _ _ _ _ _).trans (congrArg (fun z => aI z 1132 w3) ((cm_zI_aI _ _ _ _ _).trans (congrArg (fun z => aI z 1131 w2) ((cm_zI_aI _ _ _ _ _).trans (congrArg (fun z => aI z 1130 w1) (zI_zI _ 1029 _ _))))))
theorem sgX1_go_aI1130 {σ : Sto} {w0 : Int32} {w1 : Nat → Int32} {w2 : Nat → Int32} {w3 : Nat → Int32} {g : Nat → Int32} : aI (sgX1_go σ w0 w1 w2 w3) 1130 g = sgX1_go σ w0 g w2 w3 := (aI_comm _ (by decide) _ _).trans (congrArg (fun z => aI z 1132 w3) ((aI_comm _ (by decide) _ _).trans (congrArg (fun z => aI z 1131 w2) (aI_aI _ 1130 _ _))))
theorem sgX1_go_aI1131 {σ : Sto} {w0 : Int32} {w1 : Nat → Int32} {w2 : Nat → Int32} {w3 : Nat → Int32} {g : Nat → Int32} : aI (sgX1_go σ w0 w1 w2 w3) 1131 g = sgX1_go σ w0 w1 g w3 := (aI_comm _ (by decide) _ _).trans (congrArg (fun z => aI z 1132 w3) (aI_aI _ 1131 _ _))
theorem sgX1_go_aI1132 {σ : Sto} {w0 : Int32} {w1 : Nat → Int32} {w2 : Nat → Int32} {w3 : Nat → Int32} {g : Nat → Int32} : aI (sgX1_go σ w0 w1 w2 w3) 1132 g = sgX1_go σ w0 w1 w2 g := aI_aI _ 1132 _ _
theorem sgX1_go_rzI1027 {σ : Sto} {w0 : Int32} {w1 : Nat → Int32} {w2 : Nat → Int32} {w3 : Nat → Int32} : (sgX1_go σ w0 w1 w2 w3).1 1027 = σ.1 1027 := rfl
theorem sgX1_go_rzI1028 {σ : Sto} {w0 : Int32} {w1 : Nat → Int32} {w2 : Nat → Int32} {w3 : Nat → Int32} : (sgX1_go σ w0 w1 w2 w3).1 1028 = σ.1 1028 := rfl
theorem sgX1_go_rzI1029 {σ : Sto} {w0 : Int32} {w1 : Nat → Int32} {w2 : Nat → Int32} {w3 : Nat → Int32} : (sgX1_go σ w0 w1 w2 w3).1 1029 = w0 := rfl
theorem sgX1_go_rzI2008 {σ : Sto} {w0 : Int32} {w1 : Nat → Int32} {w2 : Nat → Int32} {w3 : Nat → Int32} : (sgX1_go σ w0 w1 w2 w3).1 2008 = σ.1 2008 := rfl
theorem sgX1_go_rzI2013 {σ : Sto} {w0 : Int32} {w1 : Nat → Int32} {w2 : Nat → Int32} {w3 : Nat → Int32} : (sgX1_go σ w0 w1 w2 w3).1 2013 = σ.1 2013 := rfl
theorem sgX1_go_rzI2027 {σ : Sto} {w0 : Int32} {w1 : Nat → Int32} {w2 : Nat → Int32} {w3 : Nat → Int32} : (sgX1_go σ w0 w1 w2 w3).1 2027 = σ.1 2027 := rfl
theorem sgX1_go_raI1130 {σ : Sto} {w0 : Int32} {w1 : Nat → Int32} {w2 : Nat → Int32} {w3 : Nat → Int32} : (sgX1_go σ w0 w1 w2 w3).2.2.1 1130 = w1 := rfl
theorem sgX1_go_raI1131 {σ : Sto} {w0 : Int32} {w1 : Nat → Int32} {w2 : Nat → Int32} {w3 : Nat → Int32} : (sgX1_go σ w0 w1 w2 w3).2.2.1 1131 = w2 := rfl
theorem sgX1_go_raI1132 {σ : Sto} {w0 : Int32} {w1 : Nat → Int32} {w2 : Nat → Int32} {w3 : Nat → Int32} : (sgX1_go σ w0 w1 w2 w3).2.2.1 1132 = w3 := rfl
theorem sgX1_go_raI1170 {σ : Sto} {w0 : Int32} {w1 : Nat → Int32} {w2 : Nat → Int32} {w3 : Nat → Int32} : (sgX1_go σ w0 w1 w2 w3).2.2.1 1170 = σ.2.2.1 1170 := rfl
theorem sgX1_go_raI2043 {σ : Sto} {w0 : Int32} {w1 : Nat → Int32} {w2 : Nat → Int32} {w3 : Nat → Int32} : (sgX1_go σ w0 w1 w2 w3).2.2.1 2043 = σ.2.2.1 2043 := rfl
theorem sgX1_go_rpR2 {σ : Sto} {w0 : Int32} {w1 : Nat → Int32} {w2 : Nat → Int32} {w3 : Nat → Int32} : (fun k => (sgX1_go σ w0 w1 w2 w3).1 (6000 + 16 * k + 2)) = (fun k => σ.1 (6000 + 16 * k + 2)) := by
  funext k
  unfold sgX1_go
  dsimp only [zI, zL, aI, aL]
  repeat rw [if_neg (by omega)]
theorem sgX1_go_rpR5 {σ : Sto} {w0 : Int32} {w1 : Nat → Int32} {w2 : Nat → Int32} {w3 : Nat → Int32} : (fun k => (sgX1_go σ w0 w1 w2 w3).1 (6000 + 16 * k + 5)) = (fun k => σ.1 (6000 + 16 * k + 5)) := by
  funext k
  unfold sgX1_go
  dsimp only [zI, zL, aI, aL]
  repeat rw [if_neg (by omega)]
theorem sgX1_go_rpR6 {σ : Sto} {w0 : Int32} {w1 : Nat → Int32} {w2 : Nat → Int32} {w3 : Nat → Int32} : (fun k => (sgX1_go σ w0 w1 w2 w3).1 (6000 + 16 * k + 6)) = (fun k => σ.1 (6000 + 16 * k + 6)) := by
  funext k
  unfold sgX1_go
  dsimp only [zI, zL, aI, aL]
  repeat rw [if_neg (by omega)]
theorem sgX1_go_rgG0 {σ : Sto} {w0 : Int32} {w1 : Nat → Int32} {w2 : Nat → Int32} {w3 : Nat → Int32} : (fun k => (sgX1_go σ w0 w1 w2 w3).2.2.1 (4000 + 16 * k)) = (fun k => σ.2.2.1 (4000 + 16 * k)) := by
  funext k
  unfold sgX1_go
  dsimp only [zI, zL, aI, aL]
  repeat rw [if_neg (by omega)]
abbrev rmX1_go : Room := { frames := 2, cells := 0, slots := 0, locals := 47 }
set_option maxHeartbeats 4000000 in
theorem wkX1_go {x1 : Int32} {r_ : Int32} {w_zI1029 : Int32} {w_aI1130 : Nat → Int32} {w_aI1131 : Nat → Int32} {w_aI1132 : Nat → Int32} (E : EN p s m args meth c0 RX1 cX1_go 3 (Option.some Jvm.ClassFile.FieldType.int)) (hX : KX D G ad A s s.heap) (hD : XD dsc nr nw nu) (hA : ∀ q, PA dsc ad s.heap.size q → A q) (hf : xo_X1_go (σ.1 1027) (σ.1 1028) (σ.1 1029) (σ.1 2008) (σ.1 2013) (σ.1 2027) (σ.2.2.1 1130) (σ.2.2.1 1131) (σ.2.2.1 1132) (σ.2.2.1 1170) (σ.2.2.1 2043) nr (fun k => σ.1 (6000 + 16 * k + 2)) (fun k => σ.1 (6000 + 16 * k + 5)) (fun k => σ.1 (6000 + 16 * k + 6)) (fun k => σ.2.2.1 (4000 + 16 * k)) x1 = some (r_, w_zI1029, w_aI1130, w_aI1131, w_aI1132)) (hQ : Q = MQ below (va_G1 (some (.int r_)) (fun t => PIC D clsA G dsc ad (sgX1_go σ w_zI1029 w_aI1130 w_aI1131 w_aI1132) t.heap) A) args s 0 0 A) (hP : PIC D clsA G dsc ad σ H) (hS : va_S A s.heap H locs) (hl : lv_has ls 3 [(0, .ref (ad 1000)), (1, .int x1)]) : W p l e rmX1_go s m args below meth c0 H locs 0 0 Q (F0 m 0 ls []) := by
  obtain ⟨⟨hx, hb, hml, hown, hts⟩, hr, hlk⟩ := id E
  have hP := hP.to (sgX1_go_self σ).symm
  unfold xo_X1_go at hf
  refine lv_aload_n hx hb dX1_go_0 rfl (lv_at hl 0 rfl) ?_
  obtain ⟨v1, u2, hf⟩ := bdP hf
  refine cx_X1_455_X1_mayStep E hX hD hP hS hA (kxX1_mayStep l D G hD sgX1_go_rzI1027 sgX1_go_rzI1029 sgX1_go_rzI2013 sgX1_go_raI1130 u2) ⟨rfl, rfl⟩ ⟨Nat.le_of_ble_eq_true rfl, Nat.le_of_ble_eq_true rfl⟩ ⟨Nat.zero_le _, Nat.zero_le _⟩ hl.1 (Nat.le_of_ble_eq_true rfl) dX1_go_1 (fun H locs hP hS => ?_)
  refine lv_if_eq (tgt := 15) hx hb dX1_go_4 (by decide) (fun c3 => ?_) (fun c3 => ?_)
  · have hf := ifT c3 hf
    refine lv_iconst hx hb dX1_go_15 ic_m1 ?_
    cases hf
    rw [hQ]; exact g_iret hx hb hr hlk hP hS dX1_go_16
  · have hf := ifF c3 hf
    refine lv_aload_n hx hb dX1_go_7 rfl (lv_at hl 0 rfl) ?_
    refine lv_iload_n hx hb dX1_go_8 rfl (lv_at hl 1 rfl) ?_
    obtain ⟨v4, u5, hf⟩ := bdP hf
    refine cx_X1_330_X1_isPlace E hX hD hP hS hA (kxX1_isPlace l D G hD sgX1_go_rzI2008 u5) ⟨rfl, rfl⟩ ⟨Nat.le_of_ble_eq_true rfl, Nat.le_of_ble_eq_true rfl⟩ ⟨Nat.zero_le _, Nat.zero_le _⟩ hl.1 (Nat.le_of_ble_eq_true rfl) dX1_go_9 (fun H locs hP hS => ?_)
    refine lv_if_ne (tgt := 17) hx hb dX1_go_12 (by decide) (fun c6 => ?_) (fun c6 => ?_)
    · have hf := ifF c6 hf
      refine lv_aload_n hx hb dX1_go_17 rfl (lv_at hl 0 rfl) ?_
      refine gx_X1_33_1000 E hX hD hP dX1_go_18 ?_
      refine lv_aload_n hx hb dX1_go_21 rfl (lv_at hl 0 rfl) ?_
      refine gx_X1_128_1000 E hX hD hP dX1_go_22 ?_
      refine lv_aload_n hx hb dX1_go_25 rfl (lv_at hl 0 rfl) ?_
      refine gx_X1_452_1000 (v := (σ.1 1029)) E hX hD hP sgX1_go_rzI1029 dX1_go_26 ?_
      obtain ⟨v7, hv7, hf⟩ := bdP hf
      refine p_iald hx hb hX.1 hP (hD.1 _ _ dX_1130) sgX1_go_raI1130 hv7 dX1_go_29 ?_
      refine lv_iload_n hx hb dX1_go_30 rfl (lv_at hl 1 rfl) ?_
      refine lv_aload_n hx hb dX1_go_31 rfl (lv_at hl 0 rfl) ?_
      refine gx_X1_134_1000 E hX hD hP dX1_go_32 ?_
      refine lv_aload_n hx hb dX1_go_35 rfl (lv_at hl 0 rfl) ?_
      refine gx_X1_452_1000 (v := (σ.1 1029)) E hX hD hP sgX1_go_rzI1029 dX1_go_36 ?_
      obtain ⟨v8, hv8, hf⟩ := bdP hf
      refine p_iald hx hb hX.1 hP (hD.1 _ _ dX_1132) sgX1_go_raI1132 hv8 dX1_go_39 ?_
      obtain ⟨v9, u10, hf⟩ := bdP hf
      refine cx_X1_263_X3_cost E hX hD hP hS hA (kxX3_cost l D G hD sgX1_go_raI1170 rfl sgX1_go_rpR2 sgX1_go_rpR5 sgX1_go_rpR6 sgX1_go_rgG0 u10) ⟨rfl, rfl⟩ ⟨Nat.le_of_ble_eq_true rfl, Nat.le_of_ble_eq_true rfl⟩ ⟨Nat.zero_le _, Nat.zero_le _⟩ hl.1 (Nat.le_of_ble_eq_true rfl) dX1_go_40 (fun H locs hP hS => ?_)
      refine lv_istore_n (lv' := [(2, .int v9), (0, .ref (ad 1000)), (1, .int x1)]) hx hb dX1_go_43 rfl hl (by decide) rfl (fun ls hl => ?_)
      refine lv_iload_n hx hb dX1_go_44 rfl (lv_at hl 0 rfl) ?_
      refine lv_ldcw hx hb hown (hts _ q1318) dX1_go_45 ?_
      refine lv_icmp_ne (tgt := 53) hx hb dX1_go_48 (by decide) (fun c11 => ?_) (fun c11 => ?_)
      · have hf := ifF c11 hf
        refine lv_aload_n hx hb dX1_go_53 rfl (lv_at hl 1 rfl) ?_
        refine lv_iload_n hx hb dX1_go_54 rfl (lv_at hl 2 rfl) ?_
        refine lv_iload_n hx hb dX1_go_55 rfl (lv_at hl 0 rfl) ?_
        refine lv_aload_n hx hb dX1_go_56 rfl (lv_at hl 1 rfl) ?_
        refine lv_iload_n hx hb dX1_go_57 rfl (lv_at hl 2 rfl) ?_
        refine lv_aload_n hx hb dX1_go_58 rfl (lv_at hl 1 rfl) ?_
        refine gx_X1_134_1000 E hX hD hP dX1_go_59 ?_
        refine lv_aload_n hx hb dX1_go_62 rfl (lv_at hl 1 rfl) ?_
        refine gx_X1_452_1000 (v := (σ.1 1029)) E hX hD hP sgX1_go_rzI1029 dX1_go_63 ?_
        obtain ⟨v12, hv12, hf⟩ := bdP hf
        refine p_iald hx hb hX.1 hP (hD.1 _ _ dX_1132) sgX1_go_raI1132 hv12 dX1_go_66 ?_
        refine lv_aload_n hx hb dX1_go_67 rfl (lv_at hl 1 rfl) ?_
        refine gx_X1_450_1000 (v := (σ.1 1028)) E hX hD hP sgX1_go_rzI1028 dX1_go_68 ?_
        obtain ⟨v13, u14, hf⟩ := bdP hf
        refine cx_X1_377_X1_seeing E hX hD hP hS hA (kxX1_seeing l D G hD sgX1_go_rzI2027 sgX1_go_raI1170 sgX1_go_raI2043 u14) ⟨rfl, rfl⟩ ⟨Nat.le_of_ble_eq_true rfl, Nat.le_of_ble_eq_true rfl⟩ ⟨Nat.zero_le _, Nat.zero_le _⟩ hl.1 (Nat.le_of_ble_eq_true rfl) dX1_go_71 (fun H locs hP hS => ?_)
        obtain ⟨⟨z15, a16, a17, a18⟩, u19, hf⟩ := bdP hf
        dsimp only at hf
        refine cx_X1_458_X1_step E hX hD hP hS hA (kxX1_step l D G hD sgX1_go_rzI1029 sgX1_go_raI1130 sgX1_go_raI1131 sgX1_go_raI1132 u19) ⟨rfl, rfl⟩ ⟨Nat.le_of_ble_eq_true rfl, Nat.le_of_ble_eq_true rfl⟩ ⟨Nat.zero_le _, Nat.zero_le _⟩ hl.1 (Nat.le_of_ble_eq_true rfl) dX1_go_74 (fun H locs hP hS => ?_)
        rw [sgX1_go_zI1029, sgX1_go_aI1130, sgX1_go_aI1131, sgX1_go_aI1132] at hP
        refine lv_aload_n hx hb dX1_go_77 rfl (lv_at hl 1 rfl) ?_
        refine gx_X1_131_1000 E hX hD hP dX1_go_78 ?_
        refine lv_aload_n hx hb dX1_go_81 rfl (lv_at hl 1 rfl) ?_
        refine gx_X1_452_1000 (v := z15) E hX hD hP sgX1_go_rzI1029 dX1_go_82 ?_
        obtain ⟨v20, hv20, hf⟩ := bdP hf
        refine p_iald hx hb hX.1 hP (hD.1 _ _ dX_1131) sgX1_go_raI1131 hv20 dX1_go_85 ?_
        cases hf
        rw [hQ]; exact g_iret hx hb hr hlk hP hS dX1_go_86
      · have hf := ifT c11 hf
        refine lv_iconst hx hb dX1_go_51 ic_m1 ?_
        cases hf
        rw [hQ]; exact g_iret hx hb hr hlk hP hS dX1_go_52
    · have hf := ifT c6 hf
      refine lv_iconst hx hb dX1_go_15 ic_m1 ?_
      cases hf
      rw [hQ]; exact g_iret hx hb hr hlk hP hS dX1_go_16
theorem kxX1_go (l : Launch) (D : va_G) (G : Nat → ClassId) {dsc : Nat → Option Dsc} {ad : Nat → Nat} {σ : Sto} {nr nw nu : Nat} (hD : XD dsc nr nw nu) {x1 : Int32} {r_ : Int32} {w_zI1029 : Int32} {w_aI1130 : Nat → Int32} {w_aI1131 : Nat → Int32} {w_aI1132 : Nat → Int32} {z_X_isWalking : Int32} (e_zI1027 : σ.1 1027 = z_X_isWalking) {z_X_world : Int32} (e_zI1028 : σ.1 1028 = z_X_world) {z_X_steps : Int32} (e_zI1029 : σ.1 1029 = z_X_steps) {z_L_places : Int32} (e_zI2008 : σ.1 2008 = z_L_places) {z_L_to : Int32} (e_zI2013 : σ.1 2013 = z_L_to) {z_Ld_size : Int32} (e_zI2027 : σ.1 2027 = z_Ld_size) {a_X_places : Nat → Int32} (e_aI1130 : σ.2.2.1 1130 = a_X_places) {a_X_gone : Nat → Int32} (e_aI1131 : σ.2.2.1 1131 = a_X_gone) {a_X_knowns : Nat → Int32} (e_aI1132 : σ.2.2.1 1132 = a_X_knowns) {a_UNIT : Nat → Int32} (e_aI1170 : σ.2.2.1 1170 = a_UNIT) {a_L_seen : Nat → Int32} (e_aI2043 : σ.2.2.1 2043 = a_L_seen) {n_r : Nat} (e_nN0 : nr = n_r) {p_road_hours : Nat → Int32} (e_pR2 : (fun k => σ.1 (6000 + 16 * k + 2)) = p_road_hours) {p_road_wait : Nat → Int32} (e_pR5 : (fun k => σ.1 (6000 + 16 * k + 5)) = p_road_wait) {p_road_number : Nat → Int32} (e_pR6 : (fun k => σ.1 (6000 + 16 * k + 6)) = p_road_number) {g_grid : Nat → Nat → Int32} (e_gG0 : (fun k => σ.2.2.1 (4000 + 16 * k)) = g_grid) (hf : xo_X1_go z_X_isWalking z_X_world z_X_steps z_L_places z_L_to z_Ld_size a_X_places a_X_gone a_X_knowns a_UNIT a_L_seen n_r p_road_hours p_road_wait p_road_number g_grid x1 = some (r_, w_zI1029, w_aI1130, w_aI1131, w_aI1132)) : CtG l D G dsc ad yX1_go (ws_ yX1_go cX1_go 3 (Option.some Jvm.ClassFile.FieldType.int)) rmX1_go [.ref (ad 1000), .int x1] σ (some (.int r_)) (aI (aI (aI (zI σ 1029 w_zI1029) 1130 w_aI1130) 1131 w_aI1131) 1132 w_aI1132) := by
  subst e_zI1027
  subst e_zI1028
  subst e_zI1029
  subst e_zI2008
  subst e_zI2013
  subst e_zI2027
  subst e_aI1130
  subst e_aI1131
  subst e_aI1132
  subst e_aI1170
  subst e_aI2043
  subst e_nN0
  subst e_pR2
  subst e_pR5
  subst e_pR6
  subst e_gG0
  exact p_ctG (by decide +kernel) (Nat.le_of_ble_eq_true rfl) (fun p e s m below meth c0 ls A E hP hX hA hS hl => wkX1_go E hX hD hA hf rfl hP hS hl)
end XWALK
