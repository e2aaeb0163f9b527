section XWALK
variable {p : Program} {l : Launch} {e : Env} {R : Room} {s : State} {m : MethodId} {args : Array Value} {below : List Frame} {meth : Method} {c0 : Code} {H : Heap} {locs : List Loc} {cells slots : Nat} {Q : State → Prop}
variable {cc : ByteArray} {nL : Nat} {ret : Option FieldType} {pc : Nat} {ls : Array Slot} {rest : List Value} {D : va_G} {A : Nat → Prop} {G : Nat → ClassId} {dsc : Nat → Option Dsc} {ad : Nat → Nat} {σ : Sto} {nr nw nu : Nat}
theorem ux_X4_18_1050 {v : Int64} {σ1 : Sto} (E : EN p s m args meth c0 RX4 cc nL ret) (hX : KX D G ad A s s.heap) (hD : XD dsc nr nw nu) (hP : PIC D clsA G dsc ad σ H) (hS : va_S A s.heap H locs) (hA : A (ad 1050)) (hσ : zL σ 1052 v = σ1) (hdg : decode cc pc = .ok (.putfield 18, 3)) (kk : ∀ (H1 : Heap) (locs1 : List Loc), PIC D clsA G dsc ad σ1 H1 → va_S A s.heap H1 locs1 → W p l e R s m args below meth c0 H1 locs1 cells slots Q (F0 m (pc + 3) ls rest)) : W p l e R s m args below meth c0 H locs cells slots Q (F0 m pc ls (.long v :: .ref (ad 1050) :: rest)) :=
  p_putl2 E.1.1 E.1.2.1 E.1.2.2.2.2 in_X4 tyX4 tyX4_ok E.1.2.2.2.1 hX.1 hP hS hA (hD.1 _ _ dX_1050) rfl 2 (by decide) (by decide +kernel) (E.1.2.2.2.2 _ q331) (fun _ h => h) rfl rfl rfl hσ hdg kk
theorem gx_X4_22_2000 {v : Int32} (E : EN p s m args meth c0 RX4 cc nL ret) (hX : KX D G ad A s s.heap) (hD : XD dsc nr nw nu) (hP : PIC D clsA G dsc ad σ H) (hv : σ.1 2009 = v) (hdg : decode cc pc = .ok (.getfield 22, 3)) (kk : W p l e R s m args below meth c0 H locs cells slots Q (F0 m (pc + 3) ls (.int v :: rest))) : W p l e R s m args below meth c0 H locs cells slots Q (F0 m pc ls (.ref (ad 2000) :: rest)) :=
  p_getN E.1.1 E.1.2.1 E.1.2.2.2.2 in_X3 E.1.2.2.2.1 hX.1 hP (hD.1 _ _ dX_2000) rfl 9 (by decide) (hX.2.1.1 _ q268 rfl) (fun _ h => h) rfl (congrArg Value.int hv) hdg kk
theorem gx_X4_28_2000 (E : EN p s m args meth c0 RX4 cc nL ret) (hX : KX D G ad A s s.heap) (hD : XD dsc nr nw nu) (hP : PIC D clsA G dsc ad σ H) (hdg : decode cc pc = .ok (.getfield 28, 3)) (kk : W p l e R s m args below meth c0 H locs cells slots Q (F0 m (pc + 3) ls (.ref (ad 2042) :: rest))) : W p l e R s m args below meth c0 H locs cells slots Q (F0 m pc ls (.ref (ad 2000) :: rest)) :=
  p_getN E.1.1 E.1.2.1 E.1.2.2.2.2 in_X3 E.1.2.2.2.1 hX.1 hP (hD.1 _ _ dX_2000) rfl 5 (by decide) (hX.2.1.1 _ q256 rfl) (fun _ h => h) rfl rfl hdg kk
theorem cx_X4_36_X4_alone {rm : Room} {σ1 : Sto} {x1 : Int32} {x2 : Int32} {x3 : Int32} {x4 : Int32} {r : Int64} (E : EN p s m args meth c0 RX4 cc nL ret) (hX : KX D G ad A s s.heap) (hD : XD dsc nr nw nu) (hP : PIC D clsA G dsc ad σ H) (hS : va_S A s.heap H locs) (hA : ∀ q, PA dsc ad s.heap.size q → A q) (hM : CtG l D G dsc ad yX4_alone (ws_ yX4_alone cX4_alone 13 (Option.some Jvm.ClassFile.FieldType.long)) rm [.ref (ad 2000), .int x1, .int x2, .int x3, .int x4] σ (some (.long r)) σ1) (hz : rm.cells = 0 ∧ rm.slots = 0) (hR : rm.frames + 1 ≤ R.frames ∧ 8 + (13 + 11) + rm.locals ≤ R.locals) (hcs : cells ≤ R.cells ∧ slots ≤ R.slots) (hsz : ls.size = nL) (hW : (rest.map fun v => v.category).sum ≤ 8) (hdg : decode cc pc = .ok (.invokestatic 36, 3)) (kk : ∀ (H1 : Heap) (locs1 : List Loc), PIC D clsA G dsc ad σ1 H1 → va_S A s.heap H1 locs1 → W p l e R s m args below meth c0 H1 locs1 cells slots Q (F0 m (pc + 3) ls (.long r :: rest))) : W p l e R s m args below meth c0 H locs cells slots Q (F0 m pc ls (.int x4 :: .int x3 :: .int x2 :: .int x1 :: .ref (ad 2000) :: rest)) :=
  p_gS (As := [.ref (ad 2000), .int x1, .int x2, .int x3, .int x4]) (rest := rest) E.1 hX hP hS hA hM (va_cwS 5 E.1.2.2.2.2 (lw_S q1006 q1007 q130 q1008) rfl hz.1 hz.2 (by decide +kernel) hR) rfl hsz rfl hW hdg hcs kk
theorem gx_X4_18_1050 {v : Int64} (E : EN p s m args meth c0 RX4 cc nL ret) (hX : KX D G ad A s s.heap) (hD : XD dsc nr nw nu) (hP : PIC D clsA G dsc ad σ H) (hv : σ.2.1 1052 = v) (hdg : decode cc pc = .ok (.getfield 18, 3)) (kk : W p l e R s m args below meth c0 H locs cells slots Q (F0 m (pc + 3) ls (.long v :: rest))) : W p l e R s m args below meth c0 H locs cells slots Q (F0 m pc ls (.ref (ad 1050) :: rest)) :=
  p_get E.1.1 E.1.2.1 E.1.2.2.2.2 in_X4 E.1.2.2.2.1 hX.1 hP (hD.1 _ _ dX_1050) rfl 2 (by decide) (E.1.2.2.2.2 _ q331) (fun _ h => h) rfl (congrArg Value.long hv) hdg kk
theorem cx_X4_40_X4_join_W {rm : Room} {σ1 : Sto} (E : EN p s m args meth c0 RX4 cc nL ret) (hX : KX D G ad A s s.heap) (hD : XD dsc nr nw nu) (hP : PIC D clsA G dsc ad σ H) (hS : va_S A s.heap H locs) (hA : ∀ q, PA dsc ad s.heap.size q → A q) (hM : CtG l D G dsc ad yX4_join (ws_ yX4_join cX4_join 4 (Option.none : Option Jvm.ClassFile.FieldType)) rm [.ref (ad 1050), .ref (ad 2000)] σ none σ1) (hz : rm.cells = 0 ∧ rm.slots = 0) (hR : rm.frames + 1 ≤ R.frames ∧ 8 + (4 + 11) + rm.locals ≤ R.locals) (hcs : cells ≤ R.cells ∧ slots ≤ R.slots) (hsz : ls.size = nL) (hW : (rest.map fun v => v.category).sum ≤ 8) (hdg : decode cc pc = .ok (.invokevirtual 40, 3)) (kk : ∀ (H1 : Heap) (locs1 : List Loc), PIC D clsA G dsc ad σ1 H1 → va_S A s.heap H1 locs1 → W p l e R s m args below meth c0 H1 locs1 cells slots Q (F0 m (pc + 3) ls (rest))) : W p l e R s m args below meth c0 H locs cells slots Q (F0 m pc ls (.ref (ad 2000) :: .ref (ad 1050) :: rest)) :=
  p_gV (As := [.ref (ad 2000)]) (rest := rest) E.1 hX hP hS hA hM (cwV 1 E.1.2.2.2.2 (lw_V q1023 q1025 qs22 q130 q1026) rfl hz.1 hz.2 (by decide +kernel) hR) (hD.1 _ _ dX_1050) rfl rfl rfl hsz rfl hW hdg hcs kk
/-! X4_lay_W (LShutPasses$Land;II)V -/
def sgX4_lay_W (σ : Sto) (w0 : Int64) (w1 : Nat → Int64) (w2 : Nat → Int64) : Sto := aL (aL (zL σ 1052 w0) 1140 w1) 1141 w2
theorem sgX4_lay_W_self (σ : Sto) : sgX4_lay_W σ (σ.2.1 1052) (σ.2.2.2.1 1140) (σ.2.2.2.1 1141) = σ := by
  unfold sgX4_lay_W
  simp only [zI_self, zL_self, aI_self, aL_self]
theorem sgX4_lay_W_zL1052 {σ : Sto} {w0 : Int64} {w1 : Nat → Int64} {w2 : Nat → Int64} {g : Int64} : zL (sgX4_lay_W σ w0 w1 w2) 1052 g = sgX4_lay_W σ g w1 w2 := (cm_zL_aL _ _ _ _ _).trans (congrArg (fun z => aL z 1141 w2) ((cm_zL_aL _ _ _ _ _).trans (congrArg (fun z => aL z 1140 w1) (zL_zL _ 1052 _ _))))
theorem sgX4_lay_W_aL1140 {σ : Sto} {w0 : Int64} {w1 : Nat → Int64} {w2 : Nat → Int64} {g : Nat → Int64} : aL (sgX4_lay_W σ w0 w1 w2) 1140 g = sgX4_lay_W σ w0 g w2 := (aL_comm _ (by decide) _ _).trans (congrArg (fun z => aL z 1141 w2) (aL_aL _ 1140 _ _))
theorem sgX4_lay_W_aL1141 {σ : Sto} {w0 : Int64} {w1 : Nat → Int64} {w2 : Nat → Int64} {g : Nat → Int64} : aL (sgX4_lay_W σ w0 w1 w2) 1141 g = sgX4_lay_W σ w0 w1 g := aL_aL _ 1141 _ _
theorem sgX4_lay_W_rzI2009 {σ : Sto} {w0 : Int64} {w1 : Nat → Int64} {w2 : Nat → Int64} : (sgX4_lay_W σ w0 w1 w2).1 2009 = σ.1 2009 := rfl
theorem sgX4_lay_W_rzI2027 {σ : Sto} {w0 : Int64} {w1 : Nat → Int64} {w2 : Nat → Int64} : (sgX4_lay_W σ w0 w1 w2).1 2027 = σ.1 2027 := rfl
theorem sgX4_lay_W_rzL1052 {σ : Sto} {w0 : Int64} {w1 : Nat → Int64} {w2 : Nat → Int64} : (sgX4_lay_W σ w0 w1 w2).2.1 1052 = w0 := rfl
theorem sgX4_lay_W_raI1170 {σ : Sto} {w0 : Int64} {w1 : Nat → Int64} {w2 : Nat → Int64} : (sgX4_lay_W σ w0 w1 w2).2.2.1 1170 = σ.2.2.1 1170 := rfl
theorem sgX4_lay_W_raI2036 {σ : Sto} {w0 : Int64} {w1 : Nat → Int64} {w2 : Nat → Int64} : (sgX4_lay_W σ w0 w1 w2).2.2.1 2036 = σ.2.2.1 2036 := rfl
theorem sgX4_lay_W_raI2042 {σ : Sto} {w0 : Int64} {w1 : Nat → Int64} {w2 : Nat → Int64} : (sgX4_lay_W σ w0 w1 w2).2.2.1 2042 = σ.2.2.1 2042 := rfl
theorem sgX4_lay_W_raL1140 {σ : Sto} {w0 : Int64} {w1 : Nat → Int64} {w2 : Nat → Int64} : (sgX4_lay_W σ w0 w1 w2).2.2.2.1 1140 = w1 := rfl
theorem sgX4_lay_W_raL1141 {σ : Sto} {w0 : Int64} {w1 : Nat → Int64} {w2 : Nat → Int64} : (sgX4_lay_W σ w0 w1 w2).2.2.2.1 1141 = w2 := rfl
theorem sgX4_lay_W_rpR3 {σ : Sto} {w0 : Int64} {w1 : Nat → Int64} {w2 : Nat → Int64} : (fun k => (sgX4_lay_W σ w0 w1 w2).1 (6000 + 16 * k + 3)) = (fun k => σ.1 (6000 + 16 * k + 3)) := by
  funext k
  unfold sgX4_lay_W
  dsimp only [zI, zL, aI, aL]
  repeat rw [if_neg (by omega)]
theorem sgX4_lay_W_rpR4 {σ : Sto} {w0 : Int64} {w1 : Nat → Int64} {w2 : Nat → Int64} : (fun k => (sgX4_lay_W σ w0 w1 w2).1 (6000 + 16 * k + 4)) = (fun k => σ.1 (6000 + 16 * k + 4)) := by
  funext k
  unfold sgX4_lay_W
  dsimp only [zI, zL, aI, aL]
  repeat rw [if_neg (by omega)]
abbrev rmX4_lay_W : Room := { frames := 4, cells := 0, slots := 0, locals := 96 }
set_option maxHeartbeats 4000000 in
theorem wkX4_lay_W {x2 : Int32} {x3 : Int32} {w_zL1052 : Int64} {w_aL1140 : Nat → Int64} {w_aL1141 : Nat → Int64} (E : EN p s m args meth c0 RX4 cX4_lay 8 (Option.none : Option Jvm.ClassFile.FieldType)) (hX : KX D G ad A s s.heap) (hD : XD dsc nr nw nu) (hA : ∀ q, PA dsc ad s.heap.size q → A q) (hf : xo_X4_lay_W (σ.1 2009) (σ.1 2027) (σ.2.1 1052) (σ.2.2.1 1170) (σ.2.2.1 2036) (σ.2.2.1 2042) (σ.2.2.2.1 1140) (σ.2.2.2.1 1141) nr (fun k => σ.1 (6000 + 16 * k + 3)) (fun k => σ.1 (6000 + 16 * k + 4)) x2 x3 = some (w_zL1052, w_aL1140, w_aL1141)) (hQ : Q = MQ below (va_G1 none (fun t => PIC D clsA G dsc ad (sgX4_lay_W σ w_zL1052 w_aL1140 w_aL1141) t.heap) A) args s 0 0 A) (hP : PIC D clsA G dsc ad σ H) (hS : va_S A s.heap H locs) (hl : lv_has ls 8 [(0, .ref (ad 1050)), (1, .ref (ad 2000)), (2, .int x2), (3, .int x3)]) : W p l e rmX4_lay_W s m args below meth c0 H locs 0 0 Q (F0 m 0 ls []) := by
  obtain ⟨⟨hx, hb, hml, hown, hts⟩, hr, hlk⟩ := id E
  have hP := hP.to (sgX4_lay_W_self σ).symm
  unfold xo_X4_lay_W at hf
  refine lv_aload_n hx hb dX4_lay_0 rfl (lv_at hl 0 rfl) ?_
  refine lv_lconst hx hb dX4_lay_1 lc_0 ?_
  refine ux_X4_18_1050 E hX hD hP hS (hA _ (PA_c (hD.1 _ _ dX_1050))) sgX4_lay_W_zL1052 dX4_lay_2 (fun H locs hP hS => ?_)
  refine lv_iconst hx hb dX4_lay_5 ic_0 ?_
  refine lv_istore (lv' := [(4, .int 0), (0, .ref (ad 1050)), (1, .ref (ad 2000)), (2, .int x2), (3, .int x3)]) hx hb dX4_lay_6 hl (by decide) rfl (fun ls hl => ?_)
  have LP8 : ∀ (st8 : Int32 × (Nat → Int64)) (ex8 : ((Nat → Int64))), loop (xo_X4_lay_W_L8) st8 = some ex8 → ∀ (H : Heap) (locs : List Loc), PIC D clsA G dsc ad (sgX4_lay_W σ 0 (st8.2) (σ.2.2.2.1 1141)) H → va_S A s.heap H locs → ∀ (ls : Array Slot), lv_has ls 8 [(0, .ref (ad 1050)), (1, .ref (ad 2000)), (2, .int x2), (3, .int x3), (4, .int (st8.1))] → (∀ (a6 : Nat → Int64), ex8 = a6 → ∀ (H : Heap) (locs : List Loc), PIC D clsA G dsc ad (sgX4_lay_W σ 0 a6 (σ.2.2.2.1 1141)) H → va_S A s.heap H locs → ∀ (ls : Array Slot), lv_has ls 8 [(0, .ref (ad 1050)), (1, .ref (ad 2000)), (2, .int x2), (3, .int x3)] → W p l e rmX4_lay_W s m args below meth c0 H locs 0 0 Q (F0 m 29 ls [])) → W p l e rmX4_lay_W s m args below meth c0 H locs 0 0 Q (F0 m 8 ls []) := by
    refine loop_P (fun st8 ex8 o8 hf ih8 hx8 => ?_)
    obtain ⟨y1, a2⟩ := st8
    intro H locs (hP : PIC D clsA G dsc ad (sgX4_lay_W σ 0 a2 (σ.2.2.2.1 1141)) H) hS ls (hl : lv_has ls 8 [(0, .ref (ad 1050)), (1, .ref (ad 2000)), (2, .int x2), (3, .int x3), (4, .int y1)]) KE8_0
    dsimp only [xo_X4_lay_W_L8] at hf
    refine lv_iload hx hb dX4_lay_8 (lv_at hl 4 rfl) ?_
    refine lv_bipush hx hb dX4_lay_10 bp_64 ?_
    refine lv_icmp_ge (tgt := 29) hx hb dX4_lay_12 (by decide) (fun c3 => ?_) (fun c3 => ?_)
    · have hf := ifT c3 hf
      exact KE8_0 _ (hx8 _ (Option.some.inj hf).symm).symm H locs hP hS ls (lv_sub hl [0, 1, 2, 3] rfl)
    · have hf := ifF c3 hf
      refine lv_aload_n hx hb dX4_lay_15 rfl (lv_at hl 0 rfl) ?_
      refine gx_X4_9_1050 E hX hD hP dX4_lay_16 ?_
      refine lv_iload hx hb dX4_lay_19 (lv_at hl 4 rfl) ?_
      refine lv_lconst hx hb dX4_lay_21 lc_0 ?_
      obtain ⟨a4, ha4, hf⟩ := bdP hf
      refine p_last hx hb hX.1 hP hS (hA _ (PA_c (hD.1 _ _ dX_1140))) (hD.1 _ _ dX_1140) sgX4_lay_W_raL1140 ha4 sgX4_lay_W_aL1140 dX4_lay_22 (fun H locs hP hS => ?_)
      obtain ⟨v5, hv5, hf⟩ := bdP hf
      refine lv_iinc (v := v5) (lv' := [(4, .int v5), (0, .ref (ad 1050)), (1, .ref (ad 2000)), (2, .int x2), (3, .int x3)]) hx hb dX4_lay_23 hl (k := 4) rfl (Option.some.inj hv5) (by decide) rfl (fun ls hl => ?_)
      refine lv_goto (tgt := 8) hx hb dX4_lay_26 (by decide) ?_
      exact ih8 _ (Option.some.inj hf).symm H locs hP hS ls (lv_sub hl [1, 2, 3, 4, 0] rfl) KE8_0
  obtain ⟨ex8, hlp8, hf⟩ := bdP hf
  refine LP8 (0, (σ.2.2.2.1 1140)) ex8 hlp8 H locs hP hS ls (lv_sub hl [1, 2, 3, 4, 0] rfl) ?_
  intro a6 hex8 H locs hP hS ls hl
  subst ex8
  refine lv_iconst hx hb dX4_lay_29 ic_0 ?_
  refine lv_istore (lv' := [(4, .int 0), (0, .ref (ad 1050)), (1, .ref (ad 2000)), (2, .int x2), (3, .int x3)]) hx hb dX4_lay_30 hl (by decide) rfl (fun ls hl => ?_)
  have LP32 : ∀ (st32 : Int32 × (Nat → Int64)) (ex32 : ((Nat → Int64))), loop (xo_X4_lay_W_L32 (σ.1 2009) (σ.1 2027) (σ.2.2.1 2036) (σ.2.2.1 2042) nr (fun k => σ.1 (6000 + 16 * k + 3)) (fun k => σ.1 (6000 + 16 * k + 4)) x2 x3) st32 = some ex32 → ∀ (H : Heap) (locs : List Loc), PIC D clsA G dsc ad (sgX4_lay_W σ 0 (st32.2) (σ.2.2.2.1 1141)) H → va_S A s.heap H locs → ∀ (ls : Array Slot), lv_has ls 8 [(0, .ref (ad 1050)), (1, .ref (ad 2000)), (2, .int x2), (3, .int x3), (4, .int (st32.1))] → (∀ (a33 : Nat → Int64), ex32 = a33 → ∀ (H : Heap) (locs : List Loc), PIC D clsA G dsc ad (sgX4_lay_W σ 0 a33 (σ.2.2.2.1 1141)) H → va_S A s.heap H locs → ∀ (ls : Array Slot), lv_has ls 8 [(0, .ref (ad 1050)), (1, .ref (ad 2000))] → W p l e rmX4_lay_W s m args below meth c0 H locs 0 0 Q (F0 m 149 ls [])) → W p l e rmX4_lay_W s m args below meth c0 H locs 0 0 Q (F0 m 32 ls []) := by
    refine loop_P (fun st32 ex32 o32 hf ih32 hx32 => ?_)
    obtain ⟨y7, a8⟩ := st32
    intro H locs (hP : PIC D clsA G dsc ad (sgX4_lay_W σ 0 a8 (σ.2.2.2.1 1141)) H) hS ls (hl : lv_has ls 8 [(0, .ref (ad 1050)), (1, .ref (ad 2000)), (2, .int x2), (3, .int x3), (4, .int y7)]) KE32_0
    dsimp only [xo_X4_lay_W_L32] at hf
    refine lv_iload hx hb dX4_lay_32 (lv_at hl 4 rfl) ?_
    refine lv_iconst hx hb dX4_lay_34 ic_1 ?_
    refine lv_aload_n hx hb dX4_lay_35 rfl (lv_at hl 1 rfl) ?_
    refine gx_X4_22_2000 (v := (σ.1 2009)) E hX hD hP sgX4_lay_W_rzI2009 dX4_lay_36 ?_
    refine lv_ishl hx hb dX4_lay_39 ?_
    refine lv_icmp_ge (tgt := 149) hx hb dX4_lay_40 (by decide) (fun c9 => ?_) (fun c9 => ?_)
    · have hf := ifT c9 hf
      exact KE32_0 _ (hx32 _ (Option.some.inj hf).symm).symm H locs hP hS ls (lv_sub hl [0, 1] rfl)
    · have hf := ifF c9 hf
      refine lv_lconst hx hb dX4_lay_43 lc_1 ?_
      refine lv_lstore (lv' := [(5, .long 1), (0, .ref (ad 1050)), (1, .ref (ad 2000)), (2, .int x2), (3, .int x3), (4, .int y7)]) hx hb dX4_lay_44 hl (by decide) rfl (fun ls hl => ?_)
      refine lv_iconst hx hb dX4_lay_46 ic_0 ?_
      refine lv_istore (lv' := [(7, .int 0), (5, .long 1), (0, .ref (ad 1050)), (1, .ref (ad 2000)), (2, .int x2), (3, .int x3), (4, .int y7)]) hx hb dX4_lay_47 hl (by decide) rfl (fun ls hl => ?_)
      have LP49 : ∀ (st49 : Int64 × Int32) (ex49 : (Int64)), loop (xo_X4_lay_W_L49 (σ.1 2009) (σ.2.2.1 2042) y7) st49 = some ex49 → ∀ (H : Heap) (locs : List Loc), PIC D clsA G dsc ad (sgX4_lay_W σ 0 a8 (σ.2.2.2.1 1141)) H → va_S A s.heap H locs → ∀ (ls : Array Slot), lv_has ls 8 [(0, .ref (ad 1050)), (1, .ref (ad 2000)), (2, .int x2), (3, .int x3), (4, .int y7), (5, .long (st49.1)), (7, .int (st49.2))] → (∀ (y20 : Int64), ex49 = y20 → ∀ (H : Heap) (locs : List Loc), PIC D clsA G dsc ad (sgX4_lay_W σ 0 a8 (σ.2.2.2.1 1141)) H → va_S A s.heap H locs → ∀ (ls : Array Slot), lv_has ls 8 [(0, .ref (ad 1050)), (1, .ref (ad 2000)), (2, .int x2), (3, .int x3), (4, .int y7), (5, .long y20)] → W p l e rmX4_lay_W s m args below meth c0 H locs 0 0 Q (F0 m 102 ls [])) → W p l e rmX4_lay_W s m args below meth c0 H locs 0 0 Q (F0 m 49 ls []) := by
        refine loop_P (fun st49 ex49 o49 hf ih49 hx49 => ?_)
        obtain ⟨y10, y11⟩ := st49
        intro H locs (hP : PIC D clsA G dsc ad (sgX4_lay_W σ 0 a8 (σ.2.2.2.1 1141)) H) hS ls (hl : lv_has ls 8 [(0, .ref (ad 1050)), (1, .ref (ad 2000)), (2, .int x2), (3, .int x3), (4, .int y7), (5, .long y10), (7, .int y11)]) KE49_0
        dsimp only [xo_X4_lay_W_L49] at hf
        refine lv_iload hx hb dX4_lay_49 (lv_at hl 6 rfl) ?_
        refine lv_aload_n hx hb dX4_lay_51 rfl (lv_at hl 1 rfl) ?_
        refine gx_X4_22_2000 (v := (σ.1 2009)) E hX hD hP sgX4_lay_W_rzI2009 dX4_lay_52 ?_
        refine lv_icmp_ge (tgt := 102) hx hb dX4_lay_55 (by decide) (fun c12 => ?_) (fun c12 => ?_)
        · have hf := ifT c12 hf
          exact KE49_0 _ (hx49 _ (Option.some.inj hf).symm).symm H locs hP hS ls (lv_sub hl [0, 1, 2, 3, 4, 5] rfl)
        · have hf := ifF c12 hf
          refine lv_lload hx hb dX4_lay_58 (lv_at hl 5 rfl) ?_
          refine lv_iload hx hb dX4_lay_60 (lv_at hl 4 rfl) ?_
          refine lv_iload hx hb dX4_lay_62 (lv_at hl 6 rfl) ?_
          refine lv_ishr hx hb dX4_lay_64 ?_
          refine lv_iconst hx hb dX4_lay_65 ic_1 ?_
          refine lv_iand hx hb dX4_lay_66 ?_
          refine lv_iconst hx hb dX4_lay_67 ic_1 ?_
          have J93 : ∀ (k13 : Int64) (k14 : Int64), xo_X4_lay_W_J93 y11 k13 k14 = some o49 → ∀ (H : Heap) (locs : List Loc), PIC D clsA G dsc ad (sgX4_lay_W σ 0 a8 (σ.2.2.2.1 1141)) H → va_S A s.heap H locs → ∀ (ls : Array Slot), lv_has ls 8 [(0, .ref (ad 1050)), (1, .ref (ad 2000)), (2, .int x2), (3, .int x3), (4, .int y7), (7, .int y11)] → W p l e rmX4_lay_W s m args below meth c0 H locs 0 0 Q (F0 m 93 ls [.long k13, .long k14]) := by
            intro k13 k14 hf H locs hP hS ls hl
            unfold xo_X4_lay_W_J93 at hf
            refine lv_lmul hx hb dX4_lay_93 ?_
            obtain ⟨v15, hv15, hf⟩ := bdP hf
            refine nm_l (Option.some.inj hv15) ?_
            refine lv_lstore (lv' := [(5, .long v15), (0, .ref (ad 1050)), (1, .ref (ad 2000)), (2, .int x2), (3, .int x3), (4, .int y7), (7, .int y11)]) hx hb dX4_lay_94 hl (by decide) rfl (fun ls hl => ?_)
            obtain ⟨v16, hv16, hf⟩ := bdP hf
            refine lv_iinc (v := v16) (lv' := [(7, .int v16), (5, .long v15), (0, .ref (ad 1050)), (1, .ref (ad 2000)), (2, .int x2), (3, .int x3), (4, .int y7)]) hx hb dX4_lay_96 hl (k := 6) rfl (Option.some.inj hv16) (by decide) rfl (fun ls hl => ?_)
            refine lv_goto (tgt := 49) hx hb dX4_lay_99 (by decide) ?_
            exact ih49 _ (Option.some.inj hf).symm H locs hP hS ls (lv_sub hl [2, 3, 4, 5, 6, 1, 0] rfl) KE49_0
          refine lv_icmp_ne (tgt := 82) hx hb dX4_lay_68 (by decide) (fun c17 => ?_) (fun c17 => ?_)
          · have hf := ifF c17 hf
            refine lv_bipush hx hb dX4_lay_82 bp_10 ?_
            refine lv_aload_n hx hb dX4_lay_84 rfl (lv_at hl 1 rfl) ?_
            refine gx_X4_28_2000 E hX hD hP dX4_lay_85 ?_
            refine lv_iload hx hb dX4_lay_88 (lv_at hl 6 rfl) ?_
            obtain ⟨v18, hv18, hf⟩ := bdP hf
            refine p_iald hx hb hX.1 hP (hD.1 _ _ dX_2042) sgX4_lay_W_raI2042 hv18 dX4_lay_90 ?_
            refine lv_isub hx hb dX4_lay_91 ?_
            refine lv_i2l hx hb dX4_lay_92 rfl ?_
            exact J93 ((10 - v18).toInt64) y10 hf H locs hP hS ls (lv_sub hl [0, 1, 2, 3, 4, 6] rfl)
          · have hf := ifT c17 hf
            refine lv_aload_n hx hb dX4_lay_71 rfl (lv_at hl 1 rfl) ?_
            refine gx_X4_28_2000 E hX hD hP dX4_lay_72 ?_
            refine lv_iload hx hb dX4_lay_75 (lv_at hl 6 rfl) ?_
            obtain ⟨v19, hv19, hf⟩ := bdP hf
            refine p_iald hx hb hX.1 hP (hD.1 _ _ dX_2042) sgX4_lay_W_raI2042 hv19 dX4_lay_77 ?_
            refine lv_i2l hx hb dX4_lay_78 rfl ?_
            refine lv_goto (tgt := 93) hx hb dX4_lay_79 (by decide) ?_
            exact J93 (v19.toInt64) y10 hf H locs hP hS ls (lv_sub hl [0, 1, 2, 3, 4, 6] rfl)
      obtain ⟨ex49, hlp49, hf⟩ := bdP hf
      refine LP49 (1, 0) ex49 hlp49 H locs hP hS ls (lv_sub hl [2, 3, 4, 5, 6, 1, 0] rfl) ?_
      intro y20 hex49 H locs hP hS ls hl
      subst ex49
      refine lv_iconst hx hb dX4_lay_102 ic_0 ?_
      refine lv_istore (lv' := [(7, .int 0), (0, .ref (ad 1050)), (1, .ref (ad 2000)), (2, .int x2), (3, .int x3), (4, .int y7), (5, .long y20)]) hx hb dX4_lay_103 hl (by decide) rfl (fun ls hl => ?_)
      have LP105 : ∀ (st105 : Int32 × (Nat → Int64)) (ex105 : ((Nat → Int64))), loop (xo_X4_lay_W_L105 (σ.1 2027) (σ.2.2.1 2036) nr (fun k => σ.1 (6000 + 16 * k + 3)) (fun k => σ.1 (6000 + 16 * k + 4)) x2 x3 y7 y20) st105 = some ex105 → ∀ (H : Heap) (locs : List Loc), PIC D clsA G dsc ad (sgX4_lay_W σ 0 (st105.2) (σ.2.2.2.1 1141)) H → va_S A s.heap H locs → ∀ (ls : Array Slot), lv_has ls 8 [(0, .ref (ad 1050)), (1, .ref (ad 2000)), (2, .int x2), (3, .int x3), (4, .int y7), (5, .long y20), (7, .int (st105.1))] → (∀ (a31 : Nat → Int64), ex105 = a31 → ∀ (H : Heap) (locs : List Loc), PIC D clsA G dsc ad (sgX4_lay_W σ 0 a31 (σ.2.2.2.1 1141)) H → va_S A s.heap H locs → ∀ (ls : Array Slot), lv_has ls 8 [(0, .ref (ad 1050)), (1, .ref (ad 2000)), (2, .int x2), (3, .int x3), (4, .int y7)] → W p l e rmX4_lay_W s m args below meth c0 H locs 0 0 Q (F0 m 143 ls [])) → W p l e rmX4_lay_W s m args below meth c0 H locs 0 0 Q (F0 m 105 ls []) := by
        refine loop_P (fun st105 ex105 o105 hf ih105 hx105 => ?_)
        obtain ⟨y21, a22⟩ := st105
        intro H locs (hP : PIC D clsA G dsc ad (sgX4_lay_W σ 0 a22 (σ.2.2.2.1 1141)) H) hS ls (hl : lv_has ls 8 [(0, .ref (ad 1050)), (1, .ref (ad 2000)), (2, .int x2), (3, .int x3), (4, .int y7), (5, .long y20), (7, .int y21)]) KE105_0
        dsimp only [xo_X4_lay_W_L105] at hf
        refine lv_iload hx hb dX4_lay_105 (lv_at hl 6 rfl) ?_
        refine lv_aload_n hx hb dX4_lay_107 rfl (lv_at hl 1 rfl) ?_
        obtain ⟨v23, u24, hf⟩ := bdP hf
        refine cx_X4_32_X3_worlds E hX hD hP hS hA (kxX3_worlds l D G hD sgX4_lay_W_rzI2027 u24) ⟨rfl, rfl⟩ ⟨Nat.le_of_ble_eq_true rfl, Nat.le_of_ble_eq_true rfl⟩ ⟨Nat.zero_le _, Nat.zero_le _⟩ hl.1 (Nat.le_of_ble_eq_true rfl) dX4_lay_108 (fun H locs hP hS => ?_)
        refine lv_icmp_ge (tgt := 143) hx hb dX4_lay_111 (by decide) (fun c25 => ?_) (fun c25 => ?_)
        · have hf := ifT c25 hf
          exact KE105_0 _ (hx105 _ (Option.some.inj hf).symm).symm H locs hP hS ls (lv_sub hl [0, 1, 2, 3, 4] rfl)
        · have hf := ifF c25 hf
          refine lv_aload_n hx hb dX4_lay_114 rfl (lv_at hl 0 rfl) ?_
          refine gx_X4_9_1050 E hX hD hP dX4_lay_115 ?_
          refine lv_iload hx hb dX4_lay_118 (lv_at hl 6 rfl) ?_
          refine lv_dup2_11 hx hb dX4_lay_120 rfl rfl ?_
          obtain ⟨v26, hv26, hf⟩ := bdP hf
          refine p_lald hx hb hX.1 hP (hD.1 _ _ dX_1140) sgX4_lay_W_raL1140 hv26 dX4_lay_121 ?_
          refine lv_lload hx hb dX4_lay_122 (lv_at hl 5 rfl) ?_
          refine lv_aload_n hx hb dX4_lay_124 rfl (lv_at hl 1 rfl) ?_
          refine lv_iload hx hb dX4_lay_125 (lv_at hl 6 rfl) ?_
          refine lv_iload hx hb dX4_lay_127 (lv_at hl 4 rfl) ?_
          refine lv_iload_n hx hb dX4_lay_129 rfl (lv_at hl 2 rfl) ?_
          refine lv_iload_n hx hb dX4_lay_130 rfl (lv_at hl 3 rfl) ?_
          obtain ⟨v27, u28, hf⟩ := bdP hf
          refine cx_X4_36_X4_alone E hX hD hP hS hA (kxX4_alone l D G hD sgX4_lay_W_rzI2027 sgX4_lay_W_raI2036 rfl sgX4_lay_W_rpR3 sgX4_lay_W_rpR4 u28) ⟨rfl, rfl⟩ ⟨Nat.le_of_ble_eq_true rfl, Nat.le_of_ble_eq_true rfl⟩ ⟨Nat.zero_le _, Nat.zero_le _⟩ hl.1 (Nat.le_of_ble_eq_true rfl) dX4_lay_131 (fun H locs hP hS => ?_)
          refine lv_lmul hx hb dX4_lay_134 ?_
          refine lv_ladd hx hb dX4_lay_135 ?_
          obtain ⟨a29, ha29, hf⟩ := bdP hf
          refine p_last hx hb hX.1 hP hS (hA _ (PA_c (hD.1 _ _ dX_1140))) (hD.1 _ _ dX_1140) sgX4_lay_W_raL1140 ha29 sgX4_lay_W_aL1140 dX4_lay_136 (fun H locs hP hS => ?_)
          obtain ⟨v30, hv30, hf⟩ := bdP hf
          refine lv_iinc (v := v30) (lv' := [(7, .int v30), (0, .ref (ad 1050)), (1, .ref (ad 2000)), (2, .int x2), (3, .int x3), (4, .int y7), (5, .long y20)]) hx hb dX4_lay_137 hl (k := 6) rfl (Option.some.inj hv30) (by decide) rfl (fun ls hl => ?_)
          refine lv_goto (tgt := 105) hx hb dX4_lay_140 (by decide) ?_
          exact ih105 _ (Option.some.inj hf).symm H locs hP hS ls (lv_sub hl [1, 2, 3, 4, 5, 6, 0] rfl) KE105_0
      obtain ⟨ex105, hlp105, hf⟩ := bdP hf
      refine LP105 (0, a8) ex105 hlp105 H locs hP hS ls (lv_sub hl [1, 2, 3, 4, 5, 6, 0] rfl) ?_
      intro a31 hex105 H locs hP hS ls hl
      subst ex105
      obtain ⟨v32, hv32, hf⟩ := bdP hf
      refine lv_iinc (v := v32) (lv' := [(4, .int v32), (0, .ref (ad 1050)), (1, .ref (ad 2000)), (2, .int x2), (3, .int x3)]) hx hb dX4_lay_143 hl (k := 4) rfl (Option.some.inj hv32) (by decide) rfl (fun ls hl => ?_)
      refine lv_goto (tgt := 32) hx hb dX4_lay_146 (by decide) ?_
      exact ih32 _ (Option.some.inj hf).symm H locs hP hS ls (lv_sub hl [1, 2, 3, 4, 0] rfl) KE32_0
  obtain ⟨ex32, hlp32, hf⟩ := bdP hf
  refine LP32 (0, a6) ex32 hlp32 H locs hP hS ls (lv_sub hl [1, 2, 3, 4, 0] rfl) ?_
  intro a33 hex32 H locs hP hS ls hl
  subst ex32
  refine lv_iconst hx hb dX4_lay_149 ic_0 ?_
  refine lv_istore (lv' := [(4, .int 0), (0, .ref (ad 1050)), (1, .ref (ad 2000))]) hx hb dX4_lay_150 hl (by decide) rfl (fun ls hl => ?_)
  have LP152 : ∀ (st152 : Int32 × Int64) (ex152 : (Int64)), loop (xo_X4_lay_W_L152 (σ.1 2027) a33) st152 = some ex152 → ∀ (H : Heap) (locs : List Loc), PIC D clsA G dsc ad (sgX4_lay_W σ (st152.2) a33 (σ.2.2.2.1 1141)) H → va_S A s.heap H locs → ∀ (ls : Array Slot), lv_has ls 8 [(0, .ref (ad 1050)), (1, .ref (ad 2000)), (4, .int (st152.1))] → (∀ (z42 : Int64), ex152 = z42 → ∀ (H : Heap) (locs : List Loc), PIC D clsA G dsc ad (sgX4_lay_W σ z42 a33 (σ.2.2.2.1 1141)) H → va_S A s.heap H locs → ∀ (ls : Array Slot), lv_has ls 8 [(0, .ref (ad 1050)), (1, .ref (ad 2000))] → W p l e rmX4_lay_W s m args below meth c0 H locs 0 0 Q (F0 m 183 ls [])) → W p l e rmX4_lay_W s m args below meth c0 H locs 0 0 Q (F0 m 152 ls []) := by
    refine loop_P (fun st152 ex152 o152 hf ih152 hx152 => ?_)
    obtain ⟨y34, z35⟩ := st152
    intro H locs (hP : PIC D clsA G dsc ad (sgX4_lay_W σ z35 a33 (σ.2.2.2.1 1141)) H) hS ls (hl : lv_has ls 8 [(0, .ref (ad 1050)), (1, .ref (ad 2000)), (4, .int y34)]) KE152_0
    dsimp only [xo_X4_lay_W_L152] at hf
    refine lv_iload hx hb dX4_lay_152 (lv_at hl 2 rfl) ?_
    refine lv_aload_n hx hb dX4_lay_154 rfl (lv_at hl 1 rfl) ?_
    obtain ⟨v36, u37, hf⟩ := bdP hf
    refine cx_X4_32_X3_worlds E hX hD hP hS hA (kxX3_worlds l D G hD sgX4_lay_W_rzI2027 u37) ⟨rfl, rfl⟩ ⟨Nat.le_of_ble_eq_true rfl, Nat.le_of_ble_eq_true rfl⟩ ⟨Nat.zero_le _, Nat.zero_le _⟩ hl.1 (Nat.le_of_ble_eq_true rfl) dX4_lay_155 (fun H locs hP hS => ?_)
    refine lv_icmp_ge (tgt := 183) hx hb dX4_lay_158 (by decide) (fun c38 => ?_) (fun c38 => ?_)
    · have hf := ifT c38 hf
      exact KE152_0 _ (hx152 _ (Option.some.inj hf).symm).symm H locs hP hS ls (lv_sub hl [0, 1] rfl)
    · have hf := ifF c38 hf
      refine lv_aload_n hx hb dX4_lay_161 rfl (lv_at hl 0 rfl) ?_
      refine lv_dup hx hb dX4_lay_162 rfl ?_
      refine gx_X4_18_1050 (v := z35) E hX hD hP sgX4_lay_W_rzL1052 dX4_lay_163 ?_
      refine lv_aload_n hx hb dX4_lay_166 rfl (lv_at hl 0 rfl) ?_
      refine gx_X4_9_1050 E hX hD hP dX4_lay_167 ?_
      refine lv_iload hx hb dX4_lay_170 (lv_at hl 2 rfl) ?_
      obtain ⟨v39, hv39, hf⟩ := bdP hf
      refine p_lald hx hb hX.1 hP (hD.1 _ _ dX_1140) sgX4_lay_W_raL1140 hv39 dX4_lay_172 ?_
      refine lv_ladd hx hb dX4_lay_173 ?_
      obtain ⟨v40, hv40, hf⟩ := bdP hf
      refine nm_l (Option.some.inj hv40) ?_
      refine ux_X4_18_1050 E hX hD hP hS (hA _ (PA_c (hD.1 _ _ dX_1050))) sgX4_lay_W_zL1052 dX4_lay_174 (fun H locs hP hS => ?_)
      obtain ⟨v41, hv41, hf⟩ := bdP hf
      refine lv_iinc (v := v41) (lv' := [(4, .int v41), (0, .ref (ad 1050)), (1, .ref (ad 2000))]) hx hb dX4_lay_177 hl (k := 2) rfl (Option.some.inj hv41) (by decide) rfl (fun ls hl => ?_)
      refine lv_goto (tgt := 152) hx hb dX4_lay_180 (by decide) ?_
      exact ih152 _ (Option.some.inj hf).symm H locs hP hS ls (lv_sub hl [1, 2, 0] rfl) KE152_0
  obtain ⟨ex152, hlp152, hf⟩ := bdP hf
  refine LP152 (0, 0) ex152 hlp152 H locs hP hS ls (lv_sub hl [1, 2, 0] rfl) ?_
  intro z42 hex152 H locs hP hS ls hl
  subst ex152
  refine lv_aload_n hx hb dX4_lay_183 rfl (lv_at hl 0 rfl) ?_
  refine lv_aload_n hx hb dX4_lay_184 rfl (lv_at hl 1 rfl) ?_
  obtain ⟨a43, u44, hf⟩ := bdP hf
  refine cx_X4_40_X4_join_W E hX hD hP hS hA (kxX4_join_W l D G hD sgX4_lay_W_rzI2027 sgX4_lay_W_raI1170 sgX4_lay_W_raL1140 sgX4_lay_W_raL1141 u44) ⟨rfl, rfl⟩ ⟨Nat.le_of_ble_eq_true rfl, Nat.le_of_ble_eq_true rfl⟩ ⟨Nat.zero_le _, Nat.zero_le _⟩ hl.1 (Nat.le_of_ble_eq_true rfl) dX4_lay_185 (fun H locs hP hS => ?_)
  rw [sgX4_lay_W_aL1141] at hP
  cases hf
  rw [hQ]; exact g_vret hx hb hr hlk hP hS dX4_lay_188
theorem kxX4_lay_W (l : Launch) (D : va_G) (G : Nat → ClassId) {dsc : Nat → Option Dsc} {ad : Nat → Nat} {σ : Sto} {nr nw nu : Nat} (hD : XD dsc nr nw nu) {x2 : Int32} {x3 : Int32} {w_zL1052 : Int64} {w_aL1140 : Nat → Int64} {w_aL1141 : Nat → Int64} {z_L_causes : Int32} (e_zI2009 : σ.1 2009 = z_L_causes) {z_Ld_size : Int32} (e_zI2027 : σ.1 2027 = z_Ld_size) {z_W_all : Int64} (e_zL1052 : σ.2.1 1052 = z_W_all) {a_UNIT : Nat → Int32} (e_aI1170 : σ.2.2.1 1170 = a_UNIT) {a_Ld_data : Nat → Int32} (e_aI2036 : σ.2.2.1 2036 = a_Ld_data) {a_L_comes : Nat → Int32} (e_aI2042 : σ.2.2.1 2042 = a_L_comes) {a_W_world : Nat → Int64} (e_aL1140 : σ.2.2.2.1 1140 = a_W_world) {a_W_likely : Nat → Int64} (e_aL1141 : σ.2.2.2.1 1141 = a_W_likely) {n_r : Nat} (e_nN0 : nr = n_r) {p_road_doubt : Nat → Int32} (e_pR3 : (fun k => σ.1 (6000 + 16 * k + 3)) = p_road_doubt) {p_road_cause : Nat → Int32} (e_pR4 : (fun k => σ.1 (6000 + 16 * k + 4)) = p_road_cause) (hf : xo_X4_lay_W z_L_causes z_Ld_size z_W_all a_UNIT a_Ld_data a_L_comes a_W_world a_W_likely n_r p_road_doubt p_road_cause x2 x3 = some (w_zL1052, w_aL1140, w_aL1141)) : CtG l D G dsc ad yX4_lay (ws_ yX4_lay cX4_lay 8 (Option.none : Option Jvm.ClassFile.FieldType)) rmX4_lay_W [.ref (ad 1050), .ref (ad 2000), .int x2, .int x3] σ none (aL (aL (zL σ 1052 w_zL1052) 1140 w_aL1140) 1141 w_aL1141) := by
  subst e_zI2009
  subst e_zI2027
  subst e_zL1052
  subst e_aI1170
  subst e_aI2036
  subst e_aI2042
  subst e_aL1140
  subst e_aL1141
  subst e_nN0
  subst e_pR3
  subst e_pR4
  exact p_ctG (by decide +kernel) (Nat.le_of_ble_eq_true rfl) (fun p e s m below meth c0 ls A E hP hX hA hS hl => wkX4_lay_W E hX hD hA hf rfl hP hS hl)
theorem gx_X5_31_2000 (E : EN p s m args meth c0 RX5 cc nL ret) (hX : KX D G ad A s s.heap) (hD : XD dsc nr nw nu) (hP : PIC D clsA G dsc ad σ H) (hdg : decode cc pc = .ok (.getfield 31, 3)) (kk : W p l e R s m args below meth c0 H locs cells slots Q (F0 m (pc + 3) ls (.ref (ad 2025) :: rest))) : W p l e R s m args below meth c0 H locs cells slots Q (F0 m pc ls (.ref (ad 2000) :: rest)) :=
  p_getN E.1.1 E.1.2.1 E.1.2.2.2.2 in_X3 E.1.2.2.2.1 hX.1 hP (hD.1 _ _ dX_2000) rfl 1 (by decide) (hX.2.1.1 _ q243 rfl) (fun _ h => h) rfl rfl hdg kk
theorem cx_X5_37_J2_size_Ld {rm : Room} {σ1 : Sto} {r : Int32} (E : EN p s m args meth c0 RX5 cc nL ret) (hX : KX D G ad A s s.heap) (hD : XD dsc nr nw nu) (hP : PIC D clsA G dsc ad σ H) (hS : va_S A s.heap H locs) (hA : ∀ q, PA dsc ad s.heap.size q → A q) (hM : CtG l D G dsc ad yJ2_size (ws_ yJ2_size cJ2_size 1 (Option.some Jvm.ClassFile.FieldType.int)) rm [.ref (ad 2025)] σ (some (.int r)) σ1) (hz : rm.cells = 0 ∧ rm.slots = 0) (hR : rm.frames + 1 ≤ R.frames ∧ 8 + (1 + 11) + rm.locals ≤ R.locals) (hcs : cells ≤ R.cells ∧ slots ≤ R.slots) (hsz : ls.size = nL) (hW : (rest.map fun v => v.category).sum ≤ 8) (hdg : decode cc pc = .ok (.invokevirtual 37, 3)) (kk : ∀ (H1 : Heap) (locs1 : List Loc), PIC D clsA G dsc ad σ1 H1 → va_S A s.heap H1 locs1 → W p l e R s m args below meth c0 H1 locs1 cells slots Q (F0 m (pc + 3) ls (.int r :: rest))) : W p l e R s m args below meth c0 H locs cells slots Q (F0 m pc ls (.ref (ad 2025) :: rest)) :=
  p_gV (As := []) (rest := rest) E.1 hX hP hS hA hM (cwV 0 E.1.2.2.2.2 (lw_V q1051 q780 q781 q129 q782) rfl hz.1 hz.2 (by decide +kernel) hR) (hD.1 _ _ dX_2025) rfl rfl rfl hsz rfl hW hdg hcs kk
/-! X5_notKnown_TB (I)I -/
abbrev rmX5_notKnown_TB : Room := { frames := 1, cells := 0, slots := 0, locals := 21 }
set_option maxHeartbeats 4000000 in
theorem wkX5_notKnown_TB {x1 : Int32} {r_ : Int32} (E : EN p s m args meth c0 RX5 cX5_notKnown 4 (Option.some Jvm.ClassFile.FieldType.int)) (hX : KX D G ad A s s.heap) (hD : XD dsc nr nw nu) (hA : ∀ q, PA dsc ad s.heap.size q → A q) (hf : xo_X5_notKnown_TB (σ.1 2027) (σ.2.2.1 1170) x1 = some r_) (hQ : Q = MQ below (va_G1 (some (.int r_)) (fun t => PIC D clsA G dsc ad σ t.heap) A) args s 0 0 A) (hP : PIC D clsA G dsc ad σ H) (hS : va_S A s.heap H locs) (hl : lv_has ls 4 [(0, .ref (ad 1060)), (1, .int x1)]) : W p l e rmX5_notKnown_TB s m args below meth c0 H locs 0 0 Q (F0 m 0 ls []) := by
  obtain ⟨⟨hx, hb, hml, hown, hts⟩, hr, hlk⟩ := id E
  unfold xo_X5_notKnown_TB at hf
  refine lv_iconst hx hb dX5_notKnown_0 ic_0 ?_
  refine lv_istore_n (lv' := [(2, .int 0), (0, .ref (ad 1060)), (1, .int x1)]) hx hb dX5_notKnown_1 rfl hl (by decide) rfl (fun ls hl => ?_)
  refine lv_iconst hx hb dX5_notKnown_2 ic_0 ?_
  refine lv_istore_n (lv' := [(3, .int 0), (2, .int 0), (0, .ref (ad 1060)), (1, .int x1)]) hx hb dX5_notKnown_3 rfl hl (by decide) rfl (fun ls hl => ?_)
  have LP4 : ∀ (st4 : Int32 × Int32) (ex4 : (Int32)), loop (xo_X5_notKnown_TB_L4 (σ.1 2027) (σ.2.2.1 1170) x1) st4 = some ex4 → ∀ (H : Heap) (locs : List Loc), PIC D clsA G dsc ad σ H → va_S A s.heap H locs → ∀ (ls : Array Slot), lv_has ls 4 [(0, .ref (ad 1060)), (1, .int x1), (2, .int (st4.1)), (3, .int (st4.2))] → (∀ (y13 : Int32), ex4 = y13 → ∀ (H : Heap) (locs : List Loc), PIC D clsA G dsc ad σ H → va_S A s.heap H locs → ∀ (ls : Array Slot), lv_has ls 4 [(2, .int y13)] → W p l e rmX5_notKnown_TB s m args below meth c0 H locs 0 0 Q (F0 m 43 ls [])) → W p l e rmX5_notKnown_TB s m args below meth c0 H locs 0 0 Q (F0 m 4 ls []) := by
    refine loop_P (fun st4 ex4 o4 hf ih4 hx4 => ?_)
    obtain ⟨y1, y2⟩ := st4
    intro H locs (hP : PIC D clsA G dsc ad σ H) hS ls (hl : lv_has ls 4 [(0, .ref (ad 1060)), (1, .int x1), (2, .int y1), (3, .int y2)]) KE4_0
    dsimp only [xo_X5_notKnown_TB_L4] at hf
    refine lv_iload_n hx hb dX5_notKnown_4 rfl (lv_at hl 3 rfl) ?_
    refine lv_aload_n hx hb dX5_notKnown_5 rfl (lv_at hl 0 rfl) ?_
    refine gx_X5_3_1060 E hX hD hP dX5_notKnown_6 ?_
    refine gx_X5_27_1000 E hX hD hP dX5_notKnown_9 ?_
    refine gx_X5_31_2000 E hX hD hP dX5_notKnown_12 ?_
    obtain ⟨v3, u4, hf⟩ := bdP hf
    refine cx_X5_37_J2_size_Ld E hX hD hP hS hA (kxJ2_size_Ld l D G hD rfl u4) ⟨rfl, rfl⟩ ⟨Nat.le_of_ble_eq_true rfl, Nat.le_of_ble_eq_true rfl⟩ ⟨Nat.zero_le _, Nat.zero_le _⟩ hl.1 (Nat.le_of_ble_eq_true rfl) dX5_notKnown_15 (fun H locs hP hS => ?_)
    refine lv_icmp_ge (tgt := 43) hx hb dX5_notKnown_18 (by decide) (fun c5 => ?_) (fun c5 => ?_)
    · have hf := ifT c5 hf
      exact KE4_0 _ (hx4 _ (Option.some.inj hf).symm).symm H locs hP hS ls (lv_sub hl [2] rfl)
    · have hf := ifF c5 hf
      refine lv_iload_n hx hb dX5_notKnown_21 rfl (lv_at hl 2 rfl) ?_
      refine lv_iload_n hx hb dX5_notKnown_22 rfl (lv_at hl 1 rfl) ?_
      refine lv_iload_n hx hb dX5_notKnown_23 rfl (lv_at hl 3 rfl) ?_
      obtain ⟨v6, u7, hf⟩ := bdP hf
      refine cx_X5_59_X1_digit E hX hD hP hS hA (kxX1_digit l D G hD rfl u7) ⟨rfl, rfl⟩ ⟨Nat.le_of_ble_eq_true rfl, Nat.le_of_ble_eq_true rfl⟩ ⟨Nat.zero_le _, Nat.zero_le _⟩ hl.1 (Nat.le_of_ble_eq_true rfl) dX5_notKnown_24 (fun H locs hP hS => ?_)
      have J35 : ∀ (k8 : Int32) (k9 : Int32), xo_X5_notKnown_TB_J35 y2 k8 k9 = some o4 → ∀ (H : Heap) (locs : List Loc), PIC D clsA G dsc ad σ H → va_S A s.heap H locs → ∀ (ls : Array Slot), lv_has ls 4 [(0, .ref (ad 1060)), (1, .int x1), (3, .int y2)] → W p l e rmX5_notKnown_TB s m args below meth c0 H locs 0 0 Q (F0 m 35 ls [.int k8, .int k9]) := by
        intro k8 k9 hf H locs hP hS ls hl
        unfold xo_X5_notKnown_TB_J35 at hf
        refine lv_iadd hx hb dX5_notKnown_35 ?_
        obtain ⟨v10, hv10, hf⟩ := bdP hf
        refine nm_i (Option.some.inj hv10) ?_
        refine lv_istore_n (lv' := [(2, .int v10), (0, .ref (ad 1060)), (1, .int x1), (3, .int y2)]) hx hb dX5_notKnown_36 rfl hl (by decide) rfl (fun ls hl => ?_)
        obtain ⟨v11, hv11, hf⟩ := bdP hf
        refine lv_iinc (v := v11) (lv' := [(3, .int v11), (2, .int v10), (0, .ref (ad 1060)), (1, .int x1)]) hx hb dX5_notKnown_37 hl (k := 3) rfl (Option.some.inj hv11) (by decide) rfl (fun ls hl => ?_)
        refine lv_goto (tgt := 4) hx hb dX5_notKnown_40 (by decide) ?_
        exact ih4 _ (Option.some.inj hf).symm H locs hP hS ls (lv_sub hl [2, 3, 1, 0] rfl) KE4_0
      refine lv_if_ne (tgt := 34) hx hb dX5_notKnown_27 (by decide) (fun c12 => ?_) (fun c12 => ?_)
      · have hf := ifF c12 hf
        refine lv_iconst hx hb dX5_notKnown_34 ic_0 ?_
        exact J35 0 y1 hf H locs hP hS ls (lv_sub hl [0, 1, 3] rfl)
      · have hf := ifT c12 hf
        refine lv_iconst hx hb dX5_notKnown_30 ic_1 ?_
        refine lv_goto (tgt := 35) hx hb dX5_notKnown_31 (by decide) ?_
        exact J35 1 y1 hf H locs hP hS ls (lv_sub hl [0, 1, 3] rfl)
  obtain ⟨ex4, hlp4, hf⟩ := bdP hf
  refine LP4 (0, 0) ex4 hlp4 H locs hP hS ls (lv_sub hl [2, 3, 1, 0] rfl) ?_
  intro y13 hex4 H locs hP hS ls hl
  subst ex4
  refine lv_iload_n hx hb dX5_notKnown_43 rfl (lv_at hl 0 rfl) ?_
  cases hf
  rw [hQ]; exact g_iret hx hb hr hlk hP hS dX5_notKnown_44
theorem kxX5_notKnown_TB (l : Launch) (D : va_G) (G : Nat → ClassId) {dsc : Nat → Option Dsc} {ad : Nat → Nat} {σ : Sto} {nr nw nu : Nat} (hD : XD dsc nr nw nu) {x1 : Int32} {r_ : Int32} {z_Ld_size : Int32} (e_zI2027 : σ.1 2027 = z_Ld_size) {a_UNIT : Nat → Int32} (e_aI1170 : σ.2.2.1 1170 = a_UNIT) (hf : xo_X5_notKnown_TB z_Ld_size a_UNIT x1 = some r_) : CtG l D G dsc ad yX5_notKnown (ws_ yX5_notKnown cX5_notKnown 4 (Option.some Jvm.ClassFile.FieldType.int)) rmX5_notKnown_TB [.ref (ad 1060), .int x1] σ (some (.int r_)) σ := by
  subst e_zI2027
  subst e_aI1170
  exact p_ctG (by decide +kernel) (Nat.le_of_ble_eq_true rfl) (fun p e s m below meth c0 ls A E hP hX hA hS hl => wkX5_notKnown_TB E hX hD hA hf rfl hP hS hl)
/-! X6_isBetter_TB (JJ)Z -/
abbrev rmX6_isBetter_TB : Room := { frames := 0, cells := 0, slots := 0, locals := 0 }
set_option maxHeartbeats 4000000 in
theorem wkX6_isBetter_TB {x1 : Int64} {x3 : Int64} {r_ : Int32} (E : EN p s m args meth c0 RX6 cX6_isBetter 5 (Option.some Jvm.ClassFile.FieldType.boolean)) (hX : KX D G ad A s s.heap) (hD : XD dsc nr nw nu) (hA : ∀ q, PA dsc ad s.heap.size q → A q) (hf : xo_X6_isBetter_TB x1 x3 = some r_) (hQ : Q = MQ below (va_G1 (some (.int r_)) (fun t => PIC D clsA G dsc ad σ t.heap) A) args s 0 0 A) (hP : PIC D clsA G dsc ad σ H) (hS : va_S A s.heap H locs) (hl : lv_has ls 5 [(0, .ref (ad 1060)), (1, .long x1), (3, .long x3)]) : W p l e rmX6_isBetter_TB s m args below meth c0 H locs 0 0 Q (F0 m 0 ls []) := by
  obtain ⟨⟨hx, hb, hml, hown, hts⟩, hr, hlk⟩ := id E
  unfold xo_X6_isBetter_TB at hf
  refine lv_lload_n hx hb dX6_isBetter_0 rfl (lv_at hl 1 rfl) ?_
  refine lv_lload_n hx hb dX6_isBetter_1 rfl (lv_at hl 2 rfl) ?_
  refine W.lcmp hx hb dX6_isBetter_2 ?_
  refine lv_if_ge (tgt := 10) hx hb dX6_isBetter_3 (by decide) (fun c1 => ?_) (fun c1 => ?_)
  · have hf := ifT ((lgc_ge _ _).mp c1) hf
    refine lv_iconst hx hb dX6_isBetter_10 ic_0 ?_
    cases hf
    rw [hQ]; exact g_nret hx hb hr hlk hP hS rfl dX6_isBetter_11
  · have hf := ifF (mt (lgc_ge _ _).mpr c1) hf
    refine lv_iconst hx hb dX6_isBetter_6 ic_1 ?_
    refine lv_goto (tgt := 11) hx hb dX6_isBetter_7 (by decide) ?_
    cases hf
    rw [hQ]; exact g_nret hx hb hr hlk hP hS rfl dX6_isBetter_11
theorem kxX6_isBetter_TB (l : Launch) (D : va_G) (G : Nat → ClassId) {dsc : Nat → Option Dsc} {ad : Nat → Nat} {σ : Sto} {nr nw nu : Nat} (hD : XD dsc nr nw nu) {x1 : Int64} {x3 : Int64} {r_ : Int32} (hf : xo_X6_isBetter_TB x1 x3 = some r_) : CtG l D G dsc ad yX6_isBetter (ws_ yX6_isBetter cX6_isBetter 5 (Option.some Jvm.ClassFile.FieldType.boolean)) rmX6_isBetter_TB [.ref (ad 1060), .long x1, .long x3] σ (some (.int r_)) σ := by
  exact p_ctG (by decide +kernel) (Nat.le_of_ble_eq_true rfl) (fun p e s m below meth c0 ls A E hP hX hA hS hl => wkX6_isBetter_TB E hX hD hA hf rfl hP hS hl)
theorem cx_X5_98_X6_isBetter_TB {rm : Room} {σ1 : Sto} {x1 : Int64} {x3 : Int64} {r : Int32} (E : EN p s m args meth c0 RX5 cc nL ret) (hX : KX D G ad A s s.heap) (hD : XD dsc nr nw nu) (hP : PIC D clsA G dsc ad σ H) (hS : va_S A s.heap H locs) (hA : ∀ q, PA dsc ad s.heap.size q → A q) (hM : CtG l D G dsc ad yX6_isBetter (ws_ yX6_isBetter cX6_isBetter 5 (Option.some Jvm.ClassFile.FieldType.boolean)) rm [.ref (ad 1060), .long x1, .long x3] σ (some (.int r)) σ1) (hz : rm.cells = 0 ∧ rm.slots = 0) (hR : rm.frames + 1 ≤ R.frames ∧ 8 + (5 + 11) + rm.locals ≤ R.locals) (hcs : cells ≤ R.cells ∧ slots ≤ R.slots) (hsz : ls.size = nL) (hW : (rest.map fun v => v.category).sum ≤ 8) (hdg : decode cc pc = .ok (.invokevirtual 98, 3)) (kk : ∀ (H1 : Heap) (locs1 : List Loc), PIC D clsA G dsc ad σ1 H1 → va_S A s.heap H1 locs1 → W p l e R s m args below meth c0 H1 locs1 cells slots Q (F0 m (pc + 3) ls (.int r :: rest))) : W p l e R s m args below meth c0 H locs cells slots Q (F0 m pc ls (.long x3 :: .long x1 :: .ref (ad 1060) :: rest)) :=
  p_gU (As := [.long x1, .long x3]) (rest := rest) E.1 hX hP hS hA hM (cw_any (owner := "ShutPasses$Table") (x := ⟨"ShutPasses$Table", "isBetter", "(JJ)Z"⟩) (y := yX6_isBetter) (C := "ShutPasses$InMean") (index := 98) (own := RX5) 2 E.1.2.2.2.2 (lw_meth q1176) rfl hz.1 hz.2 (E.1.2.2.2.2 _ q1171) (E.1.2.2.2.2 _ q1173) (va_Decl.abs (hX.2.1.1 _ q1172 rfl)) (E.1.2.2.2.2 _ q1177) (E.1.2.2.2.2 _ q1175) (E.1.2.2.2.2 _ q132) (by decide +kernel) hR) (hD.1 _ _ dX_1060) rfl rfl rfl hsz rfl hW hdg hcs kk
/-! X5_better_TB (JJ)J -/
abbrev rmX5_better_TB : Room := { frames := 1, cells := 0, slots := 0, locals := 24 }
set_option maxHeartbeats 4000000 in
theorem wkX5_better_TB {x1 : Int64} {x3 : Int64} {r_ : Int64} (E : EN p s m args meth c0 RX5 cX5_better 5 (Option.some Jvm.ClassFile.FieldType.long)) (hX : KX D G ad A s s.heap) (hD : XD dsc nr nw nu) (hA : ∀ q, PA dsc ad s.heap.size q → A q) (hf : xo_X5_better_TB (σ.2.1 1061) x1 x3 = some r_) (hQ : Q = MQ below (va_G1 (some (.long r_)) (fun t => PIC D clsA G dsc ad σ t.heap) A) args s 0 0 A) (hP : PIC D clsA G dsc ad σ H) (hS : va_S A s.heap H locs) (hl : lv_has ls 5 [(0, .ref (ad 1060)), (1, .long x1), (3, .long x3)]) : W p l e rmX5_better_TB s m args below meth c0 H locs 0 0 Q (F0 m 0 ls []) := by
  obtain ⟨⟨hx, hb, hml, hown, hts⟩, hr, hlk⟩ := id E
  unfold xo_X5_better_TB at hf
  refine lv_lload_n hx hb dX5_better_0 rfl (lv_at hl 2 rfl) ?_
  refine lv_aload_n hx hb dX5_better_1 rfl (lv_at hl 0 rfl) ?_
  refine gx_X5_19_1060 (v := (σ.2.1 1061)) E hX hD hP rfl dX5_better_2 ?_
  refine W.lcmp hx hb dX5_better_5 ?_
  have J31 : xo_X5_better_TB_J31 x1 = some r_ → ∀ (H : Heap) (locs : List Loc), PIC D clsA G dsc ad σ H → va_S A s.heap H locs → ∀ (ls : Array Slot), lv_has ls 5 [(1, .long x1)] → W p l e rmX5_better_TB s m args below meth c0 H locs 0 0 Q (F0 m 31 ls []) := by
    intro  hf H locs hP hS ls hl
    unfold xo_X5_better_TB_J31 at hf
    refine lv_lload_n hx hb dX5_better_31 rfl (lv_at hl 0 rfl) ?_
    cases hf
    rw [hQ]; exact g_lret hx hb hr hlk hP hS dX5_better_32
  refine lv_if_eq (tgt := 31) hx hb dX5_better_6 (by decide) (fun c1 => ?_) (fun c1 => ?_)
  · have hf := ifT ((lgc_eq _ _).mp c1) hf
    exact J31  hf H locs hP hS ls (lv_sub hl [1] rfl)
  · have hf := ifF (mt (lgc_eq _ _).mpr c1) hf
    refine lv_lload_n hx hb dX5_better_9 rfl (lv_at hl 1 rfl) ?_
    refine lv_aload_n hx hb dX5_better_10 rfl (lv_at hl 0 rfl) ?_
    refine gx_X5_19_1060 (v := (σ.2.1 1061)) E hX hD hP rfl dX5_better_11 ?_
    refine W.lcmp hx hb dX5_better_14 ?_
    have J27 : xo_X5_better_TB_J27 x3 = some r_ → ∀ (H : Heap) (locs : List Loc), PIC D clsA G dsc ad σ H → va_S A s.heap H locs → ∀ (ls : Array Slot), lv_has ls 5 [(3, .long x3)] → W p l e rmX5_better_TB s m args below meth c0 H locs 0 0 Q (F0 m 27 ls []) := by
      intro  hf H locs hP hS ls hl
      unfold xo_X5_better_TB_J27 at hf
      refine lv_lload_n hx hb dX5_better_27 rfl (lv_at hl 0 rfl) ?_
      refine lv_goto (tgt := 32) hx hb dX5_better_28 (by decide) ?_
      cases hf
      rw [hQ]; exact g_lret hx hb hr hlk hP hS dX5_better_32
    refine lv_if_eq (tgt := 27) hx hb dX5_better_15 (by decide) (fun c2 => ?_) (fun c2 => ?_)
    · have hf := ifT ((lgc_eq _ _).mp c2) hf
      exact J27  hf H locs hP hS ls (lv_sub hl [2] rfl)
    · have hf := ifF (mt (lgc_eq _ _).mpr c2) hf
      refine lv_aload_n hx hb dX5_better_18 rfl (lv_at hl 0 rfl) ?_
      refine lv_lload_n hx hb dX5_better_19 rfl (lv_at hl 2 rfl) ?_
      refine lv_lload_n hx hb dX5_better_20 rfl (lv_at hl 1 rfl) ?_
      obtain ⟨v3, u4, hf⟩ := bdP hf
      refine cx_X5_98_X6_isBetter_TB E hX hD hP hS hA (kxX6_isBetter_TB l D G hD u4) ⟨rfl, rfl⟩ ⟨Nat.le_of_ble_eq_true rfl, Nat.le_of_ble_eq_true rfl⟩ ⟨Nat.zero_le _, Nat.zero_le _⟩ hl.1 (Nat.le_of_ble_eq_true rfl) dX5_better_21 (fun H locs hP hS => ?_)
      refine lv_if_eq (tgt := 31) hx hb dX5_better_24 (by decide) (fun c5 => ?_) (fun c5 => ?_)
      · have hf := ifT c5 hf
        exact J31  hf H locs hP hS ls (lv_sub hl [1] rfl)
      · have hf := ifF c5 hf
        exact J27  hf H locs hP hS ls (lv_sub hl [2] rfl)
theorem kxX5_better_TB (l : Launch) (D : va_G) (G : Nat → ClassId) {dsc : Nat → Option Dsc} {ad : Nat → Nat} {σ : Sto} {nr nw nu : Nat} (hD : XD dsc nr nw nu) {x1 : Int64} {x3 : Int64} {r_ : Int64} {z_TB_none : Int64} (e_zL1061 : σ.2.1 1061 = z_TB_none) (hf : xo_X5_better_TB z_TB_none x1 x3 = some r_) : CtG l D G dsc ad yX5_better (ws_ yX5_better cX5_better 5 (Option.some Jvm.ClassFile.FieldType.long)) rmX5_better_TB [.ref (ad 1060), .long x1, .long x3] σ (some (.long r_)) σ := by
  subst e_zL1061
  exact p_ctG (by decide +kernel) (Nat.le_of_ble_eq_true rfl) (fun p e s m below meth c0 ls A E hP hX hA hS hl => wkX5_better_TB E hX hD hA hf rfl hP hS hl)
theorem cx_X5_88_X5_better_TB {rm : Room} {σ1 : Sto} {x1 : Int64} {x3 : Int64} {r : Int64} (E : EN p s m args meth c0 RX5 cc nL ret) (hX : KX D G ad A s s.heap) (hD : XD dsc nr nw nu) (hP : PIC D clsA G dsc ad σ H) (hS : va_S A s.heap H locs) (hA : ∀ q, PA dsc ad s.heap.size q → A q) (hM : CtG l D G dsc ad yX5_better (ws_ yX5_better cX5_better 5 (Option.some Jvm.ClassFile.FieldType.long)) rm [.ref (ad 1060), .long x1, .long x3] σ (some (.long r)) σ1) (hz : rm.cells = 0 ∧ rm.slots = 0) (hR : rm.frames + 1 ≤ R.frames ∧ 8 + (5 + 11) + rm.locals ≤ R.locals) (hcs : cells ≤ R.cells ∧ slots ≤ R.slots) (hsz : ls.size = nL) (hW : (rest.map fun v => v.category).sum ≤ 8) (hdg : decode cc pc = .ok (.invokevirtual 88, 3)) (kk : ∀ (H1 : Heap) (locs1 : List Loc), PIC D clsA G dsc ad σ1 H1 → va_S A s.heap H1 locs1 → W p l e R s m args below meth c0 H1 locs1 cells slots Q (F0 m (pc + 3) ls (.long r :: rest))) : W p l e R s m args below meth c0 H locs cells slots Q (F0 m pc ls (.long x3 :: .long x1 :: .ref (ad 1060) :: rest)) :=
  p_gU (As := [.long x1, .long x3]) (rest := rest) E.1 hX hP hS hA hM (cw_any (owner := "ShutPasses$Table") (x := ⟨"ShutPasses$Table", "better", "(JJ)J"⟩) (y := yX5_better) (C := "ShutPasses$InMean") (index := 88) (own := RX5) 2 E.1.2.2.2.2 (lw_meth q1170) rfl hz.1 hz.2 (E.1.2.2.2.2 _ q1167) (E.1.2.2.2.2 _ q2282) (va_Decl.of (E.1.2.2.2.2 _ q1169) (E.1.2.2.2.2 _ q1170)) (va_Nw.use rfl (hX.2.1.2 ("ShutPasses$InMean", yX5_better) (by decide +kernel))) (E.1.2.2.2.2 _ q1169) (E.1.2.2.2.2 _ q131) (by decide +kernel) hR) (hD.1 _ _ dX_1060) rfl rfl rfl hsz rfl hW hdg hcs kk
/-! X5_betters_TB (II)Z -/
def sgX5_betters_TB (σ : Sto) (w0 : Nat → Int64) : Sto := aL σ 1150 w0
theorem sgX5_betters_TB_self (σ : Sto) : sgX5_betters_TB σ (σ.2.2.2.1 1150) = σ := by
  unfold sgX5_betters_TB
  simp only [zI_self, zL_self, aI_self, aL_self]
theorem sgX5_betters_TB_aL1150 {σ : Sto} {w0 : Nat → Int64} {g : Nat → Int64} : aL (sgX5_betters_TB σ w0) 1150 g = sgX5_betters_TB σ g := aL_aL _ 1150 _ _
theorem sgX5_betters_TB_rzI1062 {σ : Sto} {w0 : Nat → Int64} : (sgX5_betters_TB σ w0).1 1062 = σ.1 1062 := rfl
theorem sgX5_betters_TB_rzI2008 {σ : Sto} {w0 : Nat → Int64} : (sgX5_betters_TB σ w0).1 2008 = σ.1 2008 := rfl
theorem sgX5_betters_TB_rzI2013 {σ : Sto} {w0 : Nat → Int64} : (sgX5_betters_TB σ w0).1 2013 = σ.1 2013 := rfl
theorem sgX5_betters_TB_rzI2027 {σ : Sto} {w0 : Nat → Int64} : (sgX5_betters_TB σ w0).1 2027 = σ.1 2027 := rfl
theorem sgX5_betters_TB_rzI2032 {σ : Sto} {w0 : Nat → Int64} : (sgX5_betters_TB σ w0).1 2032 = σ.1 2032 := rfl
theorem sgX5_betters_TB_rzL1061 {σ : Sto} {w0 : Nat → Int64} : (sgX5_betters_TB σ w0).2.1 1061 = σ.2.1 1061 := rfl
theorem sgX5_betters_TB_raI1170 {σ : Sto} {w0 : Nat → Int64} : (sgX5_betters_TB σ w0).2.2.1 1170 = σ.2.2.1 1170 := rfl
theorem sgX5_betters_TB_raI2037 {σ : Sto} {w0 : Nat → Int64} : (sgX5_betters_TB σ w0).2.2.1 2037 = σ.2.2.1 2037 := rfl
theorem sgX5_betters_TB_raI2043 {σ : Sto} {w0 : Nat → Int64} : (sgX5_betters_TB σ w0).2.2.1 2043 = σ.2.2.1 2043 := rfl
theorem sgX5_betters_TB_raL1141 {σ : Sto} {w0 : Nat → Int64} : (sgX5_betters_TB σ w0).2.2.2.1 1141 = σ.2.2.2.1 1141 := rfl
theorem sgX5_betters_TB_raL1150 {σ : Sto} {w0 : Nat → Int64} : (sgX5_betters_TB σ w0).2.2.2.1 1150 = w0 := rfl
theorem sgX5_betters_TB_rpR2 {σ : Sto} {w0 : Nat → Int64} : (fun k => (sgX5_betters_TB σ w0).1 (6000 + 16 * k + 2)) = (fun k => σ.1 (6000 + 16 * k + 2)) := by
  funext k
  unfold sgX5_betters_TB
  dsimp only [zI, zL, aI, aL]
  repeat rw [if_neg (by omega)]
theorem sgX5_betters_TB_rpR5 {σ : Sto} {w0 : Nat → Int64} : (fun k => (sgX5_betters_TB σ w0).1 (6000 + 16 * k + 5)) = (fun k => σ.1 (6000 + 16 * k + 5)) := by
  funext k
  unfold sgX5_betters_TB
  dsimp only [zI, zL, aI, aL]
  repeat rw [if_neg (by omega)]
theorem sgX5_betters_TB_rpR6 {σ : Sto} {w0 : Nat → Int64} : (fun k => (sgX5_betters_TB σ w0).1 (6000 + 16 * k + 6)) = (fun k => σ.1 (6000 + 16 * k + 6)) := by
  funext k
  unfold sgX5_betters_TB
  dsimp only [zI, zL, aI, aL]
  repeat rw [if_neg (by omega)]
theorem sgX5_betters_TB_rpW0 {σ : Sto} {w0 : Nat → Int64} : (fun k => (sgX5_betters_TB σ w0).1 (8000 + 16 * k + 0)) = (fun k => σ.1 (8000 + 16 * k + 0)) := by
  funext k
  unfold sgX5_betters_TB
  dsimp only [zI, zL, aI, aL]
  repeat rw [if_neg (by omega)]
theorem sgX5_betters_TB_rpW1 {σ : Sto} {w0 : Nat → Int64} : (fun k => (sgX5_betters_TB σ w0).1 (8000 + 16 * k + 1)) = (fun k => σ.1 (8000 + 16 * k + 1)) := by
  funext k
  unfold sgX5_betters_TB
  dsimp only [zI, zL, aI, aL]
  repeat rw [if_neg (by omega)]
theorem sgX5_betters_TB_rpW2 {σ : Sto} {w0 : Nat → Int64} : (fun k => (sgX5_betters_TB σ w0).1 (8000 + 16 * k + 2)) = (fun k => σ.1 (8000 + 16 * k + 2)) := by
  funext k
  unfold sgX5_betters_TB
  dsimp only [zI, zL, aI, aL]
  repeat rw [if_neg (by omega)]
theorem sgX5_betters_TB_rgG0 {σ : Sto} {w0 : Nat → Int64} : (fun k => (sgX5_betters_TB σ w0).2.2.1 (4000 + 16 * k)) = (fun k => σ.2.2.1 (4000 + 16 * k)) := by
  funext k
  unfold sgX5_betters_TB
  dsimp only [zI, zL, aI, aL]
  repeat rw [if_neg (by omega)]
abbrev rmX5_betters_TB : Room := { frames := 45, cells := 0, slots := 0, locals := 1241 }
set_option maxHeartbeats 4000000 in
theorem wkX5_betters_TB {x1 : Int32} {x2 : Int32} {r_ : Int32} {w_aL1150 : Nat → Int64} (E : EN p s m args meth c0 RX5 cX5_betters 8 (Option.some Jvm.ClassFile.FieldType.boolean)) (hX : KX D G ad A s s.heap) (hD : XD dsc nr nw nu) (hA : ∀ q, PA dsc ad s.heap.size q → A q) (hf : xo_X5_betters_TB (σ.1 1062) (σ.1 2008) (σ.1 2013) (σ.1 2027) (σ.1 2032) (σ.2.1 1061) (σ.2.2.1 1170) (σ.2.2.1 2037) (σ.2.2.1 2043) (σ.2.2.2.1 1141) (σ.2.2.2.1 1150) nr nw (fun k => σ.1 (6000 + 16 * k + 2)) (fun k => σ.1 (6000 + 16 * k + 5)) (fun k => σ.1 (6000 + 16 * k + 6)) (fun k => σ.1 (8000 + 16 * k + 0)) (fun k => σ.1 (8000 + 16 * k + 1)) (fun k => σ.1 (8000 + 16 * k + 2)) (fun k => σ.2.2.1 (4000 + 16 * k)) x1 x2 = some (r_, w_aL1150)) (hQ : Q = MQ below (va_G1 (some (.int r_)) (fun t => PIC D clsA G dsc ad (sgX5_betters_TB σ w_aL1150) t.heap) A) args s 0 0 A) (hP : PIC D clsA G dsc ad σ H) (hS : va_S A s.heap H locs) (hl : lv_has ls 8 [(0, .ref (ad 1060)), (1, .int x1), (2, .int x2)]) : W p l e rmX5_betters_TB s m args below meth c0 H locs 0 0 Q (F0 m 0 ls []) := by
  obtain ⟨⟨hx, hb, hml, hown, hts⟩, hr, hlk⟩ := id E
  have hP := hP.to (sgX5_betters_TB_self σ).symm
  unfold xo_X5_betters_TB at hf
  refine lv_aload_n hx hb dX5_betters_0 rfl (lv_at hl 0 rfl) ?_
  refine lv_iload_n hx hb dX5_betters_1 rfl (lv_at hl 1 rfl) ?_
  refine lv_iload_n hx hb dX5_betters_2 rfl (lv_at hl 2 rfl) ?_
  obtain ⟨v1, u2, hf⟩ := bdP hf
  refine cx_X5_81_X5_value_TB E hX hD hP hS hA (kxX5_value_TB l D G hD sgX5_betters_TB_raL1150 u2) ⟨rfl, rfl⟩ ⟨Nat.le_of_ble_eq_true rfl, Nat.le_of_ble_eq_true rfl⟩ ⟨Nat.zero_le _, Nat.zero_le _⟩ hl.1 (Nat.le_of_ble_eq_true rfl) dX5_betters_3 (fun H locs hP hS => ?_)
  refine lv_lstore_n (lv' := [(3, .long v1), (0, .ref (ad 1060)), (1, .int x1), (2, .int x2)]) hx hb dX5_betters_6 rfl hl (by decide) rfl (fun ls hl => ?_)
  refine lv_lload_n hx hb dX5_betters_7 rfl (lv_at hl 0 rfl) ?_
  refine lv_lstore (lv' := [(5, .long v1), (3, .long v1), (0, .ref (ad 1060)), (1, .int x1), (2, .int x2)]) hx hb dX5_betters_8 hl (by decide) rfl (fun ls hl => ?_)
  refine lv_iconst hx hb dX5_betters_10 ic_0 ?_
  refine lv_istore (lv' := [(7, .int 0), (5, .long v1), (3, .long v1), (0, .ref (ad 1060)), (1, .int x1), (2, .int x2)]) hx hb dX5_betters_11 hl (by decide) rfl (fun ls hl => ?_)
  have LP13 : ∀ (st13 : Int64 × Int32) (ex13 : (Int64)), loop (xo_X5_betters_TB_L13 (σ.1 1062) (σ.1 2008) (σ.1 2013) (σ.1 2027) (σ.2.1 1061) (σ.2.2.1 1170) (σ.2.2.1 2043) (σ.2.2.2.1 1141) (σ.2.2.2.1 1150) nr (fun k => σ.1 (6000 + 16 * k + 2)) (fun k => σ.1 (6000 + 16 * k + 5)) (fun k => σ.1 (6000 + 16 * k + 6)) (fun k => σ.2.2.1 (4000 + 16 * k)) x1 x2) st13 = some ex13 → ∀ (H : Heap) (locs : List Loc), PIC D clsA G dsc ad (sgX5_betters_TB σ (σ.2.2.2.1 1150)) H → va_S A s.heap H locs → ∀ (ls : Array Slot), lv_has ls 8 [(0, .ref (ad 1060)), (1, .int x1), (2, .int x2), (3, .long v1), (5, .long (st13.1)), (7, .int (st13.2))] → (∀ (y11 : Int64), ex13 = y11 → ∀ (H : Heap) (locs : List Loc), PIC D clsA G dsc ad (sgX5_betters_TB σ (σ.2.2.2.1 1150)) H → va_S A s.heap H locs → ∀ (ls : Array Slot), lv_has ls 8 [(0, .ref (ad 1060)), (1, .int x1), (2, .int x2), (3, .long v1), (5, .long y11)] → W p l e rmX5_betters_TB s m args below meth c0 H locs 0 0 Q (F0 m 50 ls [])) → W p l e rmX5_betters_TB s m args below meth c0 H locs 0 0 Q (F0 m 13 ls []) := by
    refine loop_P (fun st13 ex13 o13 hf ih13 hx13 => ?_)
    obtain ⟨y3, y4⟩ := st13
    intro H locs (hP : PIC D clsA G dsc ad (sgX5_betters_TB σ (σ.2.2.2.1 1150)) H) hS ls (hl : lv_has ls 8 [(0, .ref (ad 1060)), (1, .int x1), (2, .int x2), (3, .long v1), (5, .long y3), (7, .int y4)]) KE13_0
    dsimp only [xo_X5_betters_TB_L13] at hf
    refine lv_iload hx hb dX5_betters_13 (lv_at hl 5 rfl) ?_
    refine lv_aload_n hx hb dX5_betters_15 rfl (lv_at hl 0 rfl) ?_
    refine gx_X5_3_1060 E hX hD hP dX5_betters_16 ?_
    refine gx_X5_27_1000 E hX hD hP dX5_betters_19 ?_
    refine gx_X5_63_2000 (v := (σ.1 2008)) E hX hD hP sgX5_betters_TB_rzI2008 dX5_betters_22 ?_
    refine lv_icmp_ge (tgt := 50) hx hb dX5_betters_25 (by decide) (fun c5 => ?_) (fun c5 => ?_)
    · have hf := ifT c5 hf
      exact KE13_0 _ (hx13 _ (Option.some.inj hf).symm).symm H locs hP hS ls (lv_sub hl [0, 1, 2, 3, 4] rfl)
    · have hf := ifF c5 hf
      refine lv_aload_n hx hb dX5_betters_28 rfl (lv_at hl 0 rfl) ?_
      refine lv_lload hx hb dX5_betters_29 (lv_at hl 4 rfl) ?_
      refine lv_aload_n hx hb dX5_betters_31 rfl (lv_at hl 0 rfl) ?_
      refine lv_iload_n hx hb dX5_betters_32 rfl (lv_at hl 1 rfl) ?_
      refine lv_iload hx hb dX5_betters_33 (lv_at hl 5 rfl) ?_
      refine lv_iload_n hx hb dX5_betters_35 rfl (lv_at hl 2 rfl) ?_
      obtain ⟨v6, u7, hf⟩ := bdP hf
      refine cx_X5_84_X5_going_TB E hX hD hP hS hA (kxX5_going_TB l D G hD sgX5_betters_TB_rzI1062 sgX5_betters_TB_rzI2013 sgX5_betters_TB_rzI2027 sgX5_betters_TB_rzL1061 sgX5_betters_TB_raI1170 sgX5_betters_TB_raI2043 sgX5_betters_TB_raL1141 sgX5_betters_TB_raL1150 rfl sgX5_betters_TB_rpR2 sgX5_betters_TB_rpR5 sgX5_betters_TB_rpR6 sgX5_betters_TB_rgG0 u7) ⟨rfl, rfl⟩ ⟨Nat.le_of_ble_eq_true rfl, Nat.le_of_ble_eq_true rfl⟩ ⟨Nat.zero_le _, Nat.zero_le _⟩ hl.1 (Nat.le_of_ble_eq_true rfl) dX5_betters_36 (fun H locs hP hS => ?_)
      obtain ⟨v8, u9, hf⟩ := bdP hf
      refine cx_X5_88_X5_better_TB E hX hD hP hS hA (kxX5_better_TB l D G hD sgX5_betters_TB_rzL1061 u9) ⟨rfl, rfl⟩ ⟨Nat.le_of_ble_eq_true rfl, Nat.le_of_ble_eq_true rfl⟩ ⟨Nat.zero_le _, Nat.zero_le _⟩ hl.1 (Nat.le_of_ble_eq_true rfl) dX5_betters_39 (fun H locs hP hS => ?_)
      refine lv_lstore (lv' := [(5, .long v8), (0, .ref (ad 1060)), (1, .int x1), (2, .int x2), (3, .long v1), (7, .int y4)]) hx hb dX5_betters_42 hl (by decide) rfl (fun ls hl => ?_)
      obtain ⟨v10, hv10, hf⟩ := bdP hf
      refine lv_iinc (v := v10) (lv' := [(7, .int v10), (5, .long v8), (0, .ref (ad 1060)), (1, .int x1), (2, .int x2), (3, .long v1)]) hx hb dX5_betters_44 hl (k := 5) rfl (Option.some.inj hv10) (by decide) rfl (fun ls hl => ?_)
      refine lv_goto (tgt := 13) hx hb dX5_betters_47 (by decide) ?_
      exact ih13 _ (Option.some.inj hf).symm H locs hP hS ls (lv_sub hl [2, 3, 4, 5, 1, 0] rfl) KE13_0
  obtain ⟨ex13, hlp13, hf⟩ := bdP hf
  refine LP13 (v1, 0) ex13 hlp13 H locs hP hS ls (lv_sub hl [3, 4, 5, 2, 1, 0] rfl) ?_
  intro y11 hex13 H locs hP hS ls hl
  subst ex13
  refine lv_iconst hx hb dX5_betters_50 ic_0 ?_
  refine lv_istore (lv' := [(7, .int 0), (0, .ref (ad 1060)), (1, .int x1), (2, .int x2), (3, .long v1), (5, .long y11)]) hx hb dX5_betters_51 hl (by decide) rfl (fun ls hl => ?_)
  have LP53 : ∀ (st53 : Int64 × Int32) (ex53 : (Int64)), loop (xo_X5_betters_TB_L53 (σ.1 1062) (σ.1 2013) (σ.1 2027) (σ.1 2032) (σ.2.1 1061) (σ.2.2.1 1170) (σ.2.2.1 2037) (σ.2.2.1 2043) (σ.2.2.2.1 1141) (σ.2.2.2.1 1150) nw (fun k => σ.1 (8000 + 16 * k + 0)) (fun k => σ.1 (8000 + 16 * k + 1)) (fun k => σ.1 (8000 + 16 * k + 2)) x1 x2) st53 = some ex53 → ∀ (H : Heap) (locs : List Loc), PIC D clsA G dsc ad (sgX5_betters_TB σ (σ.2.2.2.1 1150)) H → va_S A s.heap H locs → ∀ (ls : Array Slot), lv_has ls 8 [(0, .ref (ad 1060)), (1, .int x1), (2, .int x2), (3, .long v1), (5, .long (st53.1)), (7, .int (st53.2))] → (∀ (y22 : Int64), ex53 = y22 → ∀ (H : Heap) (locs : List Loc), PIC D clsA G dsc ad (sgX5_betters_TB σ (σ.2.2.2.1 1150)) H → va_S A s.heap H locs → ∀ (ls : Array Slot), lv_has ls 8 [(0, .ref (ad 1060)), (1, .int x1), (2, .int x2), (3, .long v1), (5, .long y22)] → W p l e rmX5_betters_TB s m args below meth c0 H locs 0 0 Q (F0 m 93 ls [])) → W p l e rmX5_betters_TB s m args below meth c0 H locs 0 0 Q (F0 m 53 ls []) := by
    refine loop_P (fun st53 ex53 o53 hf ih53 hx53 => ?_)
    obtain ⟨y12, y13⟩ := st53
    intro H locs (hP : PIC D clsA G dsc ad (sgX5_betters_TB σ (σ.2.2.2.1 1150)) H) hS ls (hl : lv_has ls 8 [(0, .ref (ad 1060)), (1, .int x1), (2, .int x2), (3, .long v1), (5, .long y12), (7, .int y13)]) KE53_0
    dsimp only [xo_X5_betters_TB_L53] at hf
    refine lv_iload hx hb dX5_betters_53 (lv_at hl 5 rfl) ?_
    refine lv_aload_n hx hb dX5_betters_55 rfl (lv_at hl 0 rfl) ?_
    refine gx_X5_3_1060 E hX hD hP dX5_betters_56 ?_
    refine gx_X5_27_1000 E hX hD hP dX5_betters_59 ?_
    refine gx_X5_92_2000 E hX hD hP dX5_betters_62 ?_
    obtain ⟨v14, u15, hf⟩ := bdP hf
    refine cx_X5_37_J2_size_Lw E hX hD hP hS hA (kxJ2_size_Lw l D G hD sgX5_betters_TB_rzI2032 u15) ⟨rfl, rfl⟩ ⟨Nat.le_of_ble_eq_true rfl, Nat.le_of_ble_eq_true rfl⟩ ⟨Nat.zero_le _, Nat.zero_le _⟩ hl.1 (Nat.le_of_ble_eq_true rfl) dX5_betters_65 (fun H locs hP hS => ?_)
    refine lv_icmp_ge (tgt := 93) hx hb dX5_betters_68 (by decide) (fun c16 => ?_) (fun c16 => ?_)
    · have hf := ifT c16 hf
      exact KE53_0 _ (hx53 _ (Option.some.inj hf).symm).symm H locs hP hS ls (lv_sub hl [0, 1, 2, 3, 4] rfl)
    · have hf := ifF c16 hf
      refine lv_aload_n hx hb dX5_betters_71 rfl (lv_at hl 0 rfl) ?_
      refine lv_lload hx hb dX5_betters_72 (lv_at hl 4 rfl) ?_
      refine lv_aload_n hx hb dX5_betters_74 rfl (lv_at hl 0 rfl) ?_
      refine lv_iload_n hx hb dX5_betters_75 rfl (lv_at hl 1 rfl) ?_
      refine lv_iload hx hb dX5_betters_76 (lv_at hl 5 rfl) ?_
      refine lv_iload_n hx hb dX5_betters_78 rfl (lv_at hl 2 rfl) ?_
      obtain ⟨v17, u18, hf⟩ := bdP hf
      refine cx_X5_95_X5_buying_TB E hX hD hP hS hA (kxX5_buying_TB l D G hD sgX5_betters_TB_rzI1062 sgX5_betters_TB_rzI2013 sgX5_betters_TB_rzI2027 sgX5_betters_TB_rzI2032 sgX5_betters_TB_rzL1061 sgX5_betters_TB_raI1170 sgX5_betters_TB_raI2037 sgX5_betters_TB_raI2043 sgX5_betters_TB_raL1141 sgX5_betters_TB_raL1150 rfl sgX5_betters_TB_rpW0 sgX5_betters_TB_rpW1 sgX5_betters_TB_rpW2 u18) ⟨rfl, rfl⟩ ⟨Nat.le_of_ble_eq_true rfl, Nat.le_of_ble_eq_true rfl⟩ ⟨Nat.zero_le _, Nat.zero_le _⟩ hl.1 (Nat.le_of_ble_eq_true rfl) dX5_betters_79 (fun H locs hP hS => ?_)
      obtain ⟨v19, u20, hf⟩ := bdP hf
      refine cx_X5_88_X5_better_TB E hX hD hP hS hA (kxX5_better_TB l D G hD sgX5_betters_TB_rzL1061 u20) ⟨rfl, rfl⟩ ⟨Nat.le_of_ble_eq_true rfl, Nat.le_of_ble_eq_true rfl⟩ ⟨Nat.zero_le _, Nat.zero_le _⟩ hl.1 (Nat.le_of_ble_eq_true rfl) dX5_betters_82 (fun H locs hP hS => ?_)
      refine lv_lstore (lv' := [(5, .long v19), (0, .ref (ad 1060)), (1, .int x1), (2, .int x2), (3, .long v1), (7, .int y13)]) hx hb dX5_betters_85 hl (by decide) rfl (fun ls hl => ?_)
      obtain ⟨v21, hv21, hf⟩ := bdP hf
      refine lv_iinc (v := v21) (lv' := [(7, .int v21), (5, .long v19), (0, .ref (ad 1060)), (1, .int x1), (2, .int x2), (3, .long v1)]) hx hb dX5_betters_87 hl (k := 5) rfl (Option.some.inj hv21) (by decide) rfl (fun ls hl => ?_)
      refine lv_goto (tgt := 53) hx hb dX5_betters_90 (by decide) ?_
      exact ih53 _ (Option.some.inj hf).symm H locs hP hS ls (lv_sub hl [2, 3, 4, 5, 1, 0] rfl) KE53_0
  obtain ⟨ex53, hlp53, hf⟩ := bdP hf
  refine LP53 (y11, 0) ex53 hlp53 H locs hP hS ls (lv_sub hl [1, 2, 3, 4, 5, 0] rfl) ?_
  intro y22 hex53 H locs hP hS ls hl
  subst ex53
  refine lv_aload_n hx hb dX5_betters_93 rfl (lv_at hl 0 rfl) ?_
  refine gx_X5_15_1060 E hX hD hP dX5_betters_94 ?_
  refine lv_bipush hx hb dX5_betters_97 bp_10 ?_
  refine lv_iload_n hx hb dX5_betters_99 rfl (lv_at hl 2 rfl) ?_
  refine lv_imul hx hb dX5_betters_100 ?_
  refine lv_iload_n hx hb dX5_betters_101 rfl (lv_at hl 1 rfl) ?_
  refine lv_iadd hx hb dX5_betters_102 ?_
  refine lv_lload hx hb dX5_betters_103 (lv_at hl 4 rfl) ?_
  obtain ⟨a23, ha23, hf⟩ := bdP hf
  refine p_last hx hb hX.1 hP hS (hA _ (PA_c (hD.1 _ _ dX_1150))) (hD.1 _ _ dX_1150) sgX5_betters_TB_raL1150 ha23 sgX5_betters_TB_aL1150 dX5_betters_105 (fun H locs hP hS => ?_)
  refine lv_lload hx hb dX5_betters_106 (lv_at hl 4 rfl) ?_
  refine lv_lload_n hx hb dX5_betters_108 rfl (lv_at hl 3 rfl) ?_
  refine W.lcmp hx hb dX5_betters_109 ?_
  refine lv_if_eq (tgt := 117) hx hb dX5_betters_110 (by decide) (fun c24 => ?_) (fun c24 => ?_)
  · have hf := ifT ((lgc_eq _ _).mp c24) hf
    refine lv_iconst hx hb dX5_betters_117 ic_0 ?_
    cases hf
    rw [hQ]; exact g_nret hx hb hr hlk hP hS rfl dX5_betters_118
  · have hf := ifF (mt (lgc_eq _ _).mpr c24) hf
    refine lv_iconst hx hb dX5_betters_113 ic_1 ?_
    refine lv_goto (tgt := 118) hx hb dX5_betters_114 (by decide) ?_
    cases hf
    rw [hQ]; exact g_nret hx hb hr hlk hP hS rfl dX5_betters_118
theorem kxX5_betters_TB (l : Launch) (D : va_G) (G : Nat → ClassId) {dsc : Nat → Option Dsc} {ad : Nat → Nat} {σ : Sto} {nr nw nu : Nat} (hD : XD dsc nr nw nu) {x1 : Int32} {x2 : Int32} {r_ : Int32} {w_aL1150 : Nat → Int64} {z_TB_by : Int32} (e_zI1062 : σ.1 1062 = z_TB_by) {z_L_places : Int32} (e_zI2008 : σ.1 2008 = z_L_places) {z_L_to : Int32} (e_zI2013 : σ.1 2013 = z_L_to) {z_Ld_size : Int32} (e_zI2027 : σ.1 2027 = z_Ld_size) {z_Lw_size : Int32} (e_zI2032 : σ.1 2032 = z_Lw_size) {z_TB_none : Int64} (e_zL1061 : σ.2.1 1061 = z_TB_none) {a_UNIT : Nat → Int32} (e_aI1170 : σ.2.2.1 1170 = a_UNIT) {a_Lw_data : Nat → Int32} (e_aI2037 : σ.2.2.1 2037 = a_Lw_data) {a_L_seen : Nat → Int32} (e_aI2043 : σ.2.2.1 2043 = a_L_seen) {a_W_likely : Nat → Int64} (e_aL1141 : σ.2.2.2.1 1141 = a_W_likely) {a_TB_value : Nat → Int64} (e_aL1150 : σ.2.2.2.1 1150 = a_TB_value) {n_r : Nat} (e_nN0 : nr = n_r) {n_w : Nat} (e_nN1 : nw = n_w) {p_road_hours : Nat → Int32} (e_pR2 : (fun k => σ.1 (6000 + 16 * k + 2)) = p_road_hours) {p_road_wait : Nat → Int32} (e_pR5 : (fun k => σ.1 (6000 + 16 * k + 5)) = p_road_wait) {p_road_number : Nat → Int32} (e_pR6 : (fun k => σ.1 (6000 + 16 * k + 6)) = p_road_number) {p_word_place : Nat → Int32} (e_pW0 : (fun k => σ.1 (8000 + 16 * k + 0)) = p_word_place) {p_word_road : Nat → Int32} (e_pW1 : (fun k => σ.1 (8000 + 16 * k + 1)) = p_word_road) {p_word_hours : Nat → Int32} (e_pW2 : (fun k => σ.1 (8000 + 16 * k + 2)) = p_word_hours) {g_grid : Nat → Nat → Int32} (e_gG0 : (fun k => σ.2.2.1 (4000 + 16 * k)) = g_grid) (hf : xo_X5_betters_TB z_TB_by z_L_places z_L_to z_Ld_size z_Lw_size z_TB_none a_UNIT a_Lw_data a_L_seen a_W_likely a_TB_value n_r n_w p_road_hours p_road_wait p_road_number p_word_place p_word_road p_word_hours g_grid x1 x2 = some (r_, w_aL1150)) : CtG l D G dsc ad yX5_betters (ws_ yX5_betters cX5_betters 8 (Option.some Jvm.ClassFile.FieldType.boolean)) rmX5_betters_TB [.ref (ad 1060), .int x1, .int x2] σ (some (.int r_)) (aL σ 1150 w_aL1150) := by
  subst e_zI1062
  subst e_zI2008
  subst e_zI2013
  subst e_zI2027
  subst e_zI2032
  subst e_zL1061
  subst e_aI1170
  subst e_aI2037
  subst e_aI2043
  subst e_aL1141
  subst e_aL1150
  subst e_nN0
  subst e_nN1
  subst e_pR2
  subst e_pR5
  subst e_pR6
  subst e_pW0
  subst e_pW1
  subst e_pW2
  subst e_gG0
  exact p_ctG (by decide +kernel) (Nat.le_of_ble_eq_true rfl) (fun p e s m below meth c0 ls A E hP hX hA hS hl => wkX5_betters_TB E hX hD hA hf rfl hP hS hl)
theorem cx_X5_77_X5_betters_TB {rm : Room} {σ1 : Sto} {x1 : Int32} {x2 : Int32} {r : Int32} (E : EN p s m args meth c0 RX5 cc nL ret) (hX : KX D G ad A s s.heap) (hD : XD dsc nr nw nu) (hP : PIC D clsA G dsc ad σ H) (hS : va_S A s.heap H locs) (hA : ∀ q, PA dsc ad s.heap.size q → A q) (hM : CtG l D G dsc ad yX5_betters (ws_ yX5_betters cX5_betters 8 (Option.some Jvm.ClassFile.FieldType.boolean)) rm [.ref (ad 1060), .int x1, .int x2] σ (some (.int r)) σ1) (hz : rm.cells = 0 ∧ rm.slots = 0) (hR : rm.frames + 1 ≤ R.frames ∧ 8 + (8 + 11) + rm.locals ≤ R.locals) (hcs : cells ≤ R.cells ∧ slots ≤ R.slots) (hsz : ls.size = nL) (hW : (rest.map fun v => v.category).sum ≤ 8) (hdg : decode cc pc = .ok (.invokevirtual 77, 3)) (kk : ∀ (H1 : Heap) (locs1 : List Loc), PIC D clsA G dsc ad σ1 H1 → va_S A s.heap H1 locs1 → W p l e R s m args below meth c0 H1 locs1 cells slots Q (F0 m (pc + 3) ls (.int r :: rest))) : W p l e R s m args below meth c0 H locs cells slots Q (F0 m pc ls (.int x2 :: .int x1 :: .ref (ad 1060) :: rest)) :=
  p_gU (As := [.int x1, .int x2]) (rest := rest) E.1 hX hP hS hA hM (cw_any (owner := "ShutPasses$Table") (x := ⟨"ShutPasses$Table", "betters", "(II)Z"⟩) (y := yX5_betters) (C := "ShutPasses$InMean") (index := 77) (own := RX5) 2 E.1.2.2.2.2 (lw_meth q1089) rfl hz.1 hz.2 (E.1.2.2.2.2 _ q1086) (E.1.2.2.2.2 _ q2279) (va_Decl.of (E.1.2.2.2.2 _ q1088) (E.1.2.2.2.2 _ q1089)) (va_Nw.use rfl (hX.2.1.2 ("ShutPasses$InMean", yX5_betters) (by decide +kernel))) (E.1.2.2.2.2 _ q1088) (E.1.2.2.2.2 _ q131) (by decide +kernel) hR) (hD.1 _ _ dX_1060) rfl rfl rfl hsz rfl hW hdg hcs kk
/-! X5_lay_2_TB (I)V -/
def sgX5_lay_2_TB (σ : Sto) (w0 : Nat → Int64) : Sto := aL σ 1150 w0
theorem sgX5_lay_2_TB_self (σ : Sto) : sgX5_lay_2_TB σ (σ.2.2.2.1 1150) = σ := by
  unfold sgX5_lay_2_TB
  simp only [zI_self, zL_self, aI_self, aL_self]
theorem sgX5_lay_2_TB_aL1150 {σ : Sto} {w0 : Nat → Int64} {g : Nat → Int64} : aL (sgX5_lay_2_TB σ w0) 1150 g = sgX5_lay_2_TB σ g := aL_aL _ 1150 _ _
theorem sgX5_lay_2_TB_rzI1062 {σ : Sto} {w0 : Nat → Int64} : (sgX5_lay_2_TB σ w0).1 1062 = σ.1 1062 := rfl
theorem sgX5_lay_2_TB_rzI2008 {σ : Sto} {w0 : Nat → Int64} : (sgX5_lay_2_TB σ w0).1 2008 = σ.1 2008 := rfl
theorem sgX5_lay_2_TB_rzI2013 {σ : Sto} {w0 : Nat → Int64} : (sgX5_lay_2_TB σ w0).1 2013 = σ.1 2013 := rfl
theorem sgX5_lay_2_TB_rzI2027 {σ : Sto} {w0 : Nat → Int64} : (sgX5_lay_2_TB σ w0).1 2027 = σ.1 2027 := rfl
theorem sgX5_lay_2_TB_rzI2032 {σ : Sto} {w0 : Nat → Int64} : (sgX5_lay_2_TB σ w0).1 2032 = σ.1 2032 := rfl
theorem sgX5_lay_2_TB_rzL1061 {σ : Sto} {w0 : Nat → Int64} : (sgX5_lay_2_TB σ w0).2.1 1061 = σ.2.1 1061 := rfl
theorem sgX5_lay_2_TB_raI1170 {σ : Sto} {w0 : Nat → Int64} : (sgX5_lay_2_TB σ w0).2.2.1 1170 = σ.2.2.1 1170 := rfl
theorem sgX5_lay_2_TB_raI2037 {σ : Sto} {w0 : Nat → Int64} : (sgX5_lay_2_TB σ w0).2.2.1 2037 = σ.2.2.1 2037 := rfl
theorem sgX5_lay_2_TB_raI2043 {σ : Sto} {w0 : Nat → Int64} : (sgX5_lay_2_TB σ w0).2.2.1 2043 = σ.2.2.1 2043 := rfl
theorem sgX5_lay_2_TB_raL1141 {σ : Sto} {w0 : Nat → Int64} : (sgX5_lay_2_TB σ w0).2.2.2.1 1141 = σ.2.2.2.1 1141 := rfl
theorem sgX5_lay_2_TB_raL1150 {σ : Sto} {w0 : Nat → Int64} : (sgX5_lay_2_TB σ w0).2.2.2.1 1150 = w0 := rfl
theorem sgX5_lay_2_TB_rpR2 {σ : Sto} {w0 : Nat → Int64} : (fun k => (sgX5_lay_2_TB σ w0).1 (6000 + 16 * k + 2)) = (fun k => σ.1 (6000 + 16 * k + 2)) := by
  funext k
  unfold sgX5_lay_2_TB
  dsimp only [zI, zL, aI, aL]
  repeat rw [if_neg (by omega)]
theorem sgX5_lay_2_TB_rpR5 {σ : Sto} {w0 : Nat → Int64} : (fun k => (sgX5_lay_2_TB σ w0).1 (6000 + 16 * k + 5)) = (fun k => σ.1 (6000 + 16 * k + 5)) := by
  funext k
  unfold sgX5_lay_2_TB
  dsimp only [zI, zL, aI, aL]
  repeat rw [if_neg (by omega)]
theorem sgX5_lay_2_TB_rpR6 {σ : Sto} {w0 : Nat → Int64} : (fun k => (sgX5_lay_2_TB σ w0).1 (6000 + 16 * k + 6)) = (fun k => σ.1 (6000 + 16 * k + 6)) := by
  funext k
  unfold sgX5_lay_2_TB
  dsimp only [zI, zL, aI, aL]
  repeat rw [if_neg (by omega)]
theorem sgX5_lay_2_TB_rpW0 {σ : Sto} {w0 : Nat → Int64} : (fun k => (sgX5_lay_2_TB σ w0).1 (8000 + 16 * k + 0)) = (fun k => σ.1 (8000 + 16 * k + 0)) := by
  funext k
  unfold sgX5_lay_2_TB
  dsimp only [zI, zL, aI, aL]
  repeat rw [if_neg (by omega)]
theorem sgX5_lay_2_TB_rpW1 {σ : Sto} {w0 : Nat → Int64} : (fun k => (sgX5_lay_2_TB σ w0).1 (8000 + 16 * k + 1)) = (fun k => σ.1 (8000 + 16 * k + 1)) := by
  funext k
  unfold sgX5_lay_2_TB
  dsimp only [zI, zL, aI, aL]
  repeat rw [if_neg (by omega)]
theorem sgX5_lay_2_TB_rpW2 {σ : Sto} {w0 : Nat → Int64} : (fun k => (sgX5_lay_2_TB σ w0).1 (8000 + 16 * k + 2)) = (fun k => σ.1 (8000 + 16 * k + 2)) := by
  funext k
  unfold sgX5_lay_2_TB
  dsimp only [zI, zL, aI, aL]
  repeat rw [if_neg (by omega)]
theorem sgX5_lay_2_TB_rgG0 {σ : Sto} {w0 : Nat → Int64} : (fun k => (sgX5_lay_2_TB σ w0).2.2.1 (4000 + 16 * k)) = (fun k => σ.2.2.1 (4000 + 16 * k)) := by
  funext k
  unfold sgX5_lay_2_TB
  dsimp only [zI, zL, aI, aL]
  repeat rw [if_neg (by omega)]
abbrev rmX5_lay_2_TB : Room := { frames := 46, cells := 0, slots := 0, locals := 1268 }
set_option maxHeartbeats 4000000 in
theorem wkX5_lay_2_TB {x1 : Int32} {w_aL1150 : Nat → Int64} (E : EN p s m args meth c0 RX5 cX5_lay_2 4 (Option.none : Option Jvm.ClassFile.FieldType)) (hX : KX D G ad A s s.heap) (hD : XD dsc nr nw nu) (hA : ∀ q, PA dsc ad s.heap.size q → A q) (hf : xo_X5_lay_2_TB (σ.1 1062) (σ.1 2008) (σ.1 2013) (σ.1 2027) (σ.1 2032) (σ.2.1 1061) (σ.2.2.1 1170) (σ.2.2.1 2037) (σ.2.2.1 2043) (σ.2.2.2.1 1141) (σ.2.2.2.1 1150) nr nw (fun k => σ.1 (6000 + 16 * k + 2)) (fun k => σ.1 (6000 + 16 * k + 5)) (fun k => σ.1 (6000 + 16 * k + 6)) (fun k => σ.1 (8000 + 16 * k + 0)) (fun k => σ.1 (8000 + 16 * k + 1)) (fun k => σ.1 (8000 + 16 * k + 2)) (fun k => σ.2.2.1 (4000 + 16 * k)) x1 = some w_aL1150) (hQ : Q = MQ below (va_G1 none (fun t => PIC D clsA G dsc ad (sgX5_lay_2_TB σ w_aL1150) t.heap) A) args s 0 0 A) (hP : PIC D clsA G dsc ad σ H) (hS : va_S A s.heap H locs) (hl : lv_has ls 4 [(0, .ref (ad 1060)), (1, .int x1)]) : W p l e rmX5_lay_2_TB s m args below meth c0 H locs 0 0 Q (F0 m 0 ls []) := by
  obtain ⟨⟨hx, hb, hml, hown, hts⟩, hr, hlk⟩ := id E
  have hP := hP.to (sgX5_lay_2_TB_self σ).symm
  unfold xo_X5_lay_2_TB at hf
  refine lv_iconst hx hb dX5_lay_2_0 ic_0 ?_
  refine lv_istore_n (lv' := [(2, .int 0), (0, .ref (ad 1060)), (1, .int x1)]) hx hb dX5_lay_2_1 rfl hl (by decide) rfl (fun ls hl => ?_)
  have LP2 : ∀ (st2 : Int32 × (Nat → Int64)) (ex2 : ((Nat → Int64))), loop (xo_X5_lay_2_TB_L2 (σ.1 2008) (σ.1 2013) (σ.2.1 1061) x1) st2 = some ex2 → ∀ (H : Heap) (locs : List Loc), PIC D clsA G dsc ad (sgX5_lay_2_TB σ (st2.2)) H → va_S A s.heap H locs → ∀ (ls : Array Slot), lv_has ls 4 [(0, .ref (ad 1060)), (1, .int x1), (2, .int (st2.1))] → (∀ (a11 : Nat → Int64), ex2 = a11 → ∀ (H : Heap) (locs : List Loc), PIC D clsA G dsc ad (sgX5_lay_2_TB σ a11) H → va_S A s.heap H locs → ∀ (ls : Array Slot), lv_has ls 4 [(0, .ref (ad 1060)), (1, .int x1)] → W p l e rmX5_lay_2_TB s m args below meth c0 H locs 0 0 Q (F0 m 59 ls [])) → W p l e rmX5_lay_2_TB s m args below meth c0 H locs 0 0 Q (F0 m 2 ls []) := by
    refine loop_P (fun st2 ex2 o2 hf ih2 hx2 => ?_)
    obtain ⟨y1, a2⟩ := st2
    intro H locs (hP : PIC D clsA G dsc ad (sgX5_lay_2_TB σ a2) H) hS ls (hl : lv_has ls 4 [(0, .ref (ad 1060)), (1, .int x1), (2, .int y1)]) KE2_0
    dsimp only [xo_X5_lay_2_TB_L2] at hf
    refine lv_iload_n hx hb dX5_lay_2_2 rfl (lv_at hl 2 rfl) ?_
    refine lv_aload_n hx hb dX5_lay_2_3 rfl (lv_at hl 0 rfl) ?_
    refine gx_X5_3_1060 E hX hD hP dX5_lay_2_4 ?_
    refine gx_X5_27_1000 E hX hD hP dX5_lay_2_7 ?_
    refine gx_X5_63_2000 (v := (σ.1 2008)) E hX hD hP sgX5_lay_2_TB_rzI2008 dX5_lay_2_10 ?_
    refine lv_icmp_ge (tgt := 59) hx hb dX5_lay_2_13 (by decide) (fun c3 => ?_) (fun c3 => ?_)
    · have hf := ifT c3 hf
      exact KE2_0 _ (hx2 _ (Option.some.inj hf).symm).symm H locs hP hS ls (lv_sub hl [0, 1] rfl)
    · have hf := ifF c3 hf
      refine lv_aload_n hx hb dX5_lay_2_16 rfl (lv_at hl 0 rfl) ?_
      refine gx_X5_15_1060 E hX hD hP dX5_lay_2_17 ?_
      refine lv_bipush hx hb dX5_lay_2_20 bp_10 ?_
      refine lv_iload_n hx hb dX5_lay_2_22 rfl (lv_at hl 1 rfl) ?_
      refine lv_imul hx hb dX5_lay_2_23 ?_
      refine lv_iload_n hx hb dX5_lay_2_24 rfl (lv_at hl 2 rfl) ?_
      refine lv_iadd hx hb dX5_lay_2_25 ?_
      refine lv_iload_n hx hb dX5_lay_2_26 rfl (lv_at hl 2 rfl) ?_
      refine lv_aload_n hx hb dX5_lay_2_27 rfl (lv_at hl 0 rfl) ?_
      refine gx_X5_3_1060 E hX hD hP dX5_lay_2_28 ?_
      refine gx_X5_27_1000 E hX hD hP dX5_lay_2_31 ?_
      refine gx_X5_67_2000 (v := (σ.1 2013)) E hX hD hP sgX5_lay_2_TB_rzI2013 dX5_lay_2_34 ?_
      have J52 : ∀ (k4 : Int64) (k5 : Int32), xo_X5_lay_2_TB_J52 y1 a2 k4 k5 = some o2 → ∀ (H : Heap) (locs : List Loc), PIC D clsA G dsc ad (sgX5_lay_2_TB σ a2) H → va_S A s.heap H locs → ∀ (ls : Array Slot), lv_has ls 4 [(0, .ref (ad 1060)), (1, .int x1), (2, .int y1)] → W p l e rmX5_lay_2_TB s m args below meth c0 H locs 0 0 Q (F0 m 52 ls [.long k4, .int k5, .ref (ad 1150)]) := by
        intro k4 k5 hf H locs hP hS ls hl
        unfold xo_X5_lay_2_TB_J52 at hf
        obtain ⟨a6, ha6, hf⟩ := bdP hf
        refine p_last hx hb hX.1 hP hS (hA _ (PA_c (hD.1 _ _ dX_1150))) (hD.1 _ _ dX_1150) sgX5_lay_2_TB_raL1150 ha6 sgX5_lay_2_TB_aL1150 dX5_lay_2_52 (fun H locs hP hS => ?_)
        obtain ⟨v7, hv7, hf⟩ := bdP hf
        refine lv_iinc (v := v7) (lv' := [(2, .int v7), (0, .ref (ad 1060)), (1, .int x1)]) hx hb dX5_lay_2_53 hl (k := 2) rfl (Option.some.inj hv7) (by decide) rfl (fun ls hl => ?_)
        refine lv_goto (tgt := 2) hx hb dX5_lay_2_56 (by decide) ?_
        exact ih2 _ (Option.some.inj hf).symm H locs hP hS ls (lv_sub hl [1, 2, 0] rfl) KE2_0
      refine lv_icmp_ne (tgt := 48) hx hb dX5_lay_2_37 (by decide) (fun c8 => ?_) (fun c8 => ?_)
      · have hf := ifF c8 hf
        refine lv_aload_n hx hb dX5_lay_2_48 rfl (lv_at hl 0 rfl) ?_
        refine gx_X5_19_1060 (v := (σ.2.1 1061)) E hX hD hP sgX5_lay_2_TB_rzL1061 dX5_lay_2_49 ?_
        exact J52 (σ.2.1 1061) ((10 * x1) + y1) hf H locs hP hS ls (lv_sub hl [0, 1, 2] rfl)
      · have hf := ifT c8 hf
        refine lv_aload_n hx hb dX5_lay_2_40 rfl (lv_at hl 0 rfl) ?_
        refine lv_iload_n hx hb dX5_lay_2_41 rfl (lv_at hl 1 rfl) ?_
        obtain ⟨v9, u10, hf⟩ := bdP hf
        refine cx_X5_70_X6_end_TB E hX hD hP hS hA (kxX6_end_TB l D G hD u10) ⟨rfl, rfl⟩ ⟨Nat.le_of_ble_eq_true rfl, Nat.le_of_ble_eq_true rfl⟩ ⟨Nat.zero_le _, Nat.zero_le _⟩ hl.1 (Nat.le_of_ble_eq_true rfl) dX5_lay_2_42 (fun H locs hP hS => ?_)
        refine lv_goto (tgt := 52) hx hb dX5_lay_2_45 (by decide) ?_
        exact J52 v9 ((10 * x1) + y1) hf H locs hP hS ls (lv_sub hl [0, 1, 2] rfl)
  obtain ⟨ex2, hlp2, hf⟩ := bdP hf
  refine LP2 (0, (σ.2.2.2.1 1150)) ex2 hlp2 H locs hP hS ls (lv_sub hl [1, 2, 0] rfl) ?_
  intro a11 hex2 H locs hP hS ls hl
  subst ex2
  refine lv_iconst hx hb dX5_lay_2_59 ic_1 ?_
  refine lv_istore_n (lv' := [(2, .int 1), (0, .ref (ad 1060)), (1, .int x1)]) hx hb dX5_lay_2_60 rfl hl (by decide) rfl (fun ls hl => ?_)
  have LP61 : ∀ (st61 : Int32 × (Nat → Int64)) (ex61 : ((Nat → Int64))), loop (xo_X5_lay_2_TB_L61 (σ.1 1062) (σ.1 2008) (σ.1 2013) (σ.1 2027) (σ.1 2032) (σ.2.1 1061) (σ.2.2.1 1170) (σ.2.2.1 2037) (σ.2.2.1 2043) (σ.2.2.2.1 1141) nr nw (fun k => σ.1 (6000 + 16 * k + 2)) (fun k => σ.1 (6000 + 16 * k + 5)) (fun k => σ.1 (6000 + 16 * k + 6)) (fun k => σ.1 (8000 + 16 * k + 0)) (fun k => σ.1 (8000 + 16 * k + 1)) (fun k => σ.1 (8000 + 16 * k + 2)) (fun k => σ.2.2.1 (4000 + 16 * k)) x1) st61 = some ex61 → ∀ (H : Heap) (locs : List Loc), PIC D clsA G dsc ad (sgX5_lay_2_TB σ (st61.2)) H → va_S A s.heap H locs → ∀ (ls : Array Slot), lv_has ls 4 [(0, .ref (ad 1060)), (1, .int x1), (2, .int (st61.1))] → (∀ (a32 : Nat → Int64), ex61 = a32 → ∀ (H : Heap) (locs : List Loc), PIC D clsA G dsc ad (sgX5_lay_2_TB σ a32) H → va_S A s.heap H locs → ∀ (ls : Array Slot), lv_has ls 4 [] → W p l e rmX5_lay_2_TB s m args below meth c0 H locs 0 0 Q (F0 m 130 ls [])) → W p l e rmX5_lay_2_TB s m args below meth c0 H locs 0 0 Q (F0 m 61 ls []) := by
    refine loop_P (fun st61 ex61 o61 hf ih61 hx61 => ?_)
    obtain ⟨y12, a13⟩ := st61
    intro H locs (hP : PIC D clsA G dsc ad (sgX5_lay_2_TB σ a13) H) hS ls (hl : lv_has ls 4 [(0, .ref (ad 1060)), (1, .int x1), (2, .int y12)]) KE61_0
    dsimp only [xo_X5_lay_2_TB_L61] at hf
    refine lv_iload_n hx hb dX5_lay_2_61 rfl (lv_at hl 2 rfl) ?_
    refine lv_if_eq (tgt := 130) hx hb dX5_lay_2_62 (by decide) (fun c14 => ?_) (fun c14 => ?_)
    · have hf := ifT c14 hf
      exact KE61_0 _ (hx61 _ (Option.some.inj hf).symm).symm H locs hP hS ls (lv_sub hl [] rfl)
    · have hf := ifF c14 hf
      refine lv_iconst hx hb dX5_lay_2_65 ic_0 ?_
      refine lv_istore_n (lv' := [(2, .int 0), (0, .ref (ad 1060)), (1, .int x1)]) hx hb dX5_lay_2_66 rfl hl (by decide) rfl (fun ls hl => ?_)
      refine lv_iconst hx hb dX5_lay_2_67 ic_0 ?_
      refine lv_istore_n (lv' := [(3, .int 0), (2, .int 0), (0, .ref (ad 1060)), (1, .int x1)]) hx hb dX5_lay_2_68 rfl hl (by decide) rfl (fun ls hl => ?_)
      have LP69 : ∀ (st69 : Int32 × Int32 × (Nat → Int64)) (ex69 : (Int32 × (Nat → Int64))), loop (xo_X5_lay_2_TB_L69 (σ.1 1062) (σ.1 2008) (σ.1 2013) (σ.1 2027) (σ.1 2032) (σ.2.1 1061) (σ.2.2.1 1170) (σ.2.2.1 2037) (σ.2.2.1 2043) (σ.2.2.2.1 1141) nr nw (fun k => σ.1 (6000 + 16 * k + 2)) (fun k => σ.1 (6000 + 16 * k + 5)) (fun k => σ.1 (6000 + 16 * k + 6)) (fun k => σ.1 (8000 + 16 * k + 0)) (fun k => σ.1 (8000 + 16 * k + 1)) (fun k => σ.1 (8000 + 16 * k + 2)) (fun k => σ.2.2.1 (4000 + 16 * k)) x1) st69 = some ex69 → ∀ (H : Heap) (locs : List Loc), PIC D clsA G dsc ad (sgX5_lay_2_TB σ (st69.2.2)) H → va_S A s.heap H locs → ∀ (ls : Array Slot), lv_has ls 4 [(0, .ref (ad 1060)), (1, .int x1), (2, .int (st69.1)), (3, .int (st69.2.1))] → (∀ (y30 : Int32) (a31 : Nat → Int64), ex69 = (y30, a31) → ∀ (H : Heap) (locs : List Loc), PIC D clsA G dsc ad (sgX5_lay_2_TB σ a31) H → va_S A s.heap H locs → ∀ (ls : Array Slot), lv_has ls 4 [(0, .ref (ad 1060)), (1, .int x1), (2, .int y30)] → W p l e rmX5_lay_2_TB s m args below meth c0 H locs 0 0 Q (F0 m 127 ls [])) → W p l e rmX5_lay_2_TB s m args below meth c0 H locs 0 0 Q (F0 m 69 ls []) := by
        refine loop_P (fun st69 ex69 o69 hf ih69 hx69 => ?_)
        obtain ⟨y15, y16, a17⟩ := st69
        intro H locs (hP : PIC D clsA G dsc ad (sgX5_lay_2_TB σ a17) H) hS ls (hl : lv_has ls 4 [(0, .ref (ad 1060)), (1, .int x1), (2, .int y15), (3, .int y16)]) KE69_0
        dsimp only [xo_X5_lay_2_TB_L69] at hf
        refine lv_iload_n hx hb dX5_lay_2_69 rfl (lv_at hl 3 rfl) ?_
        refine lv_aload_n hx hb dX5_lay_2_70 rfl (lv_at hl 0 rfl) ?_
        refine gx_X5_3_1060 E hX hD hP dX5_lay_2_71 ?_
        refine gx_X5_27_1000 E hX hD hP dX5_lay_2_74 ?_
        refine gx_X5_63_2000 (v := (σ.1 2008)) E hX hD hP sgX5_lay_2_TB_rzI2008 dX5_lay_2_77 ?_
        refine lv_icmp_ge (tgt := 127) hx hb dX5_lay_2_80 (by decide) (fun c18 => ?_) (fun c18 => ?_)
        · have hf := ifT c18 hf
          exact KE69_0 _ _ (hx69 _ (Option.some.inj hf).symm).symm H locs hP hS ls (lv_sub hl [0, 1, 2] rfl)
        · have hf := ifF c18 hf
          refine lv_iload_n hx hb dX5_lay_2_83 rfl (lv_at hl 3 rfl) ?_
          refine lv_aload_n hx hb dX5_lay_2_84 rfl (lv_at hl 0 rfl) ?_
          refine gx_X5_3_1060 E hX hD hP dX5_lay_2_85 ?_
          refine gx_X5_27_1000 E hX hD hP dX5_lay_2_88 ?_
          refine gx_X5_67_2000 (v := (σ.1 2013)) E hX hD hP sgX5_lay_2_TB_rzI2013 dX5_lay_2_91 ?_
          have J121 : ∀ (y19 : Int32) (a20 : Nat → Int64), xo_X5_lay_2_TB_J121 y16 y19 a20 = some o69 → ∀ (H : Heap) (locs : List Loc), PIC D clsA G dsc ad (sgX5_lay_2_TB σ a20) H → va_S A s.heap H locs → ∀ (ls : Array Slot), lv_has ls 4 [(0, .ref (ad 1060)), (1, .int x1), (2, .int y19), (3, .int y16)] → W p l e rmX5_lay_2_TB s m args below meth c0 H locs 0 0 Q (F0 m 121 ls []) := by
            intro y19 a20 hf H locs hP hS ls hl
            unfold xo_X5_lay_2_TB_J121 at hf
            obtain ⟨v21, hv21, hf⟩ := bdP hf
            refine lv_iinc (v := v21) (lv' := [(3, .int v21), (0, .ref (ad 1060)), (1, .int x1), (2, .int y19)]) hx hb dX5_lay_2_121 hl (k := 3) rfl (Option.some.inj hv21) (by decide) rfl (fun ls hl => ?_)
            refine lv_goto (tgt := 69) hx hb dX5_lay_2_124 (by decide) ?_
            exact ih69 _ (Option.some.inj hf).symm H locs hP hS ls (lv_sub hl [1, 2, 3, 0] rfl) KE69_0
          refine lv_icmp_eq (tgt := 121) hx hb dX5_lay_2_94 (by decide) (fun c22 => ?_) (fun c22 => ?_)
          · have hf := ifT c22 hf
            exact J121 y15 a17 hf H locs hP hS ls (lv_sub hl [0, 1, 2, 3] rfl)
          · have hf := ifF c22 hf
            refine lv_aload_n hx hb dX5_lay_2_97 rfl (lv_at hl 0 rfl) ?_
            refine gx_X5_3_1060 E hX hD hP dX5_lay_2_98 ?_
            refine gx_X5_27_1000 E hX hD hP dX5_lay_2_101 ?_
            refine lv_iload_n hx hb dX5_lay_2_104 rfl (lv_at hl 3 rfl) ?_
            refine lv_iload_n hx hb dX5_lay_2_105 rfl (lv_at hl 1 rfl) ?_
            obtain ⟨v23, u24, hf⟩ := bdP hf
            refine cx_X5_74_X3_unseen E hX hD hP hS hA (kxX3_unseen l D G hD sgX5_lay_2_TB_rzI2027 sgX5_lay_2_TB_raI1170 sgX5_lay_2_TB_raI2043 u24) ⟨rfl, rfl⟩ ⟨Nat.le_of_ble_eq_true rfl, Nat.le_of_ble_eq_true rfl⟩ ⟨Nat.zero_le _, Nat.zero_le _⟩ hl.1 (Nat.le_of_ble_eq_true rfl) dX5_lay_2_106 (fun H locs hP hS => ?_)
            refine lv_if_ne (tgt := 121) hx hb dX5_lay_2_109 (by decide) (fun c25 => ?_) (fun c25 => ?_)
            · have hf := ifF c25 hf
              exact J121 y15 a17 hf H locs hP hS ls (lv_sub hl [0, 1, 2, 3] rfl)
            · have hf := ifT c25 hf
              refine lv_iload_n hx hb dX5_lay_2_112 rfl (lv_at hl 2 rfl) ?_
              refine lv_aload_n hx hb dX5_lay_2_113 rfl (lv_at hl 0 rfl) ?_
              refine lv_iload_n hx hb dX5_lay_2_114 rfl (lv_at hl 3 rfl) ?_
              refine lv_iload_n hx hb dX5_lay_2_115 rfl (lv_at hl 1 rfl) ?_
              obtain ⟨⟨v26, a27⟩, u28, hf⟩ := bdP hf
              dsimp only at hf
              refine cx_X5_77_X5_betters_TB E hX hD hP hS hA (kxX5_betters_TB l D G hD sgX5_lay_2_TB_rzI1062 sgX5_lay_2_TB_rzI2008 sgX5_lay_2_TB_rzI2013 sgX5_lay_2_TB_rzI2027 sgX5_lay_2_TB_rzI2032 sgX5_lay_2_TB_rzL1061 sgX5_lay_2_TB_raI1170 sgX5_lay_2_TB_raI2037 sgX5_lay_2_TB_raI2043 sgX5_lay_2_TB_raL1141 sgX5_lay_2_TB_raL1150 rfl rfl sgX5_lay_2_TB_rpR2 sgX5_lay_2_TB_rpR5 sgX5_lay_2_TB_rpR6 sgX5_lay_2_TB_rpW0 sgX5_lay_2_TB_rpW1 sgX5_lay_2_TB_rpW2 sgX5_lay_2_TB_rgG0 u28) ⟨rfl, rfl⟩ ⟨Nat.le_of_ble_eq_true rfl, Nat.le_of_ble_eq_true rfl⟩ ⟨Nat.zero_le _, Nat.zero_le _⟩ hl.1 (Nat.le_of_ble_eq_true rfl) dX5_lay_2_116 (fun H locs hP hS => ?_)
              rw [sgX5_lay_2_TB_aL1150] at hP
              refine lv_ior hx hb dX5_lay_2_119 ?_
              obtain ⟨v29, hv29, hf⟩ := bdP hf
              refine nm_i (Option.some.inj hv29) ?_
              refine lv_istore_n (lv' := [(2, .int v29), (0, .ref (ad 1060)), (1, .int x1), (3, .int y16)]) hx hb dX5_lay_2_120 rfl hl (by decide) rfl (fun ls hl => ?_)
              exact J121 v29 a27 hf H locs hP hS ls (lv_sub hl [1, 2, 0, 3] rfl)
      obtain ⟨ex69, hlp69, hf⟩ := bdP hf
      refine LP69 (0, 0, a13) ex69 hlp69 H locs hP hS ls (lv_sub hl [2, 3, 1, 0] rfl) ?_
      intro y30 a31 hex69 H locs hP hS ls hl
      subst ex69
      dsimp only at hf
      refine lv_goto (tgt := 61) hx hb dX5_lay_2_127 (by decide) ?_
      exact ih61 _ (Option.some.inj hf).symm H locs hP hS ls (lv_sub hl [0, 1, 2] rfl) KE61_0
  obtain ⟨ex61, hlp61, hf⟩ := bdP hf
  refine LP61 (1, a11) ex61 hlp61 H locs hP hS ls (lv_sub hl [1, 2, 0] rfl) ?_
  intro a32 hex61 H locs hP hS ls hl
  subst ex61
  cases hf
  rw [hQ]; exact g_vret hx hb hr hlk hP hS dX5_lay_2_130
theorem kxX5_lay_2_TB (l : Launch) (D : va_G) (G : Nat → ClassId) {dsc : Nat → Option Dsc} {ad : Nat → Nat} {σ : Sto} {nr nw nu : Nat} (hD : XD dsc nr nw nu) {x1 : Int32} {w_aL1150 : Nat → Int64} {z_TB_by : Int32} (e_zI1062 : σ.1 1062 = z_TB_by) {z_L_places : Int32} (e_zI2008 : σ.1 2008 = z_L_places) {z_L_to : Int32} (e_zI2013 : σ.1 2013 = z_L_to) {z_Ld_size : Int32} (e_zI2027 : σ.1 2027 = z_Ld_size) {z_Lw_size : Int32} (e_zI2032 : σ.1 2032 = z_Lw_size) {z_TB_none : Int64} (e_zL1061 : σ.2.1 1061 = z_TB_none) {a_UNIT : Nat → Int32} (e_aI1170 : σ.2.2.1 1170 = a_UNIT) {a_Lw_data : Nat → Int32} (e_aI2037 : σ.2.2.1 2037 = a_Lw_data) {a_L_seen : Nat → Int32} (e_aI2043 : σ.2.2.1 2043 = a_L_seen) {a_W_likely : Nat → Int64} (e_aL1141 : σ.2.2.2.1 1141 = a_W_likely) {a_TB_value : Nat → Int64} (e_aL1150 : σ.2.2.2.1 1150 = a_TB_value) {n_r : Nat} (e_nN0 : nr = n_r) {n_w : Nat} (e_nN1 : nw = n_w) {p_road_hours : Nat → Int32} (e_pR2 : (fun k => σ.1 (6000 + 16 * k + 2)) = p_road_hours) {p_road_wait : Nat → Int32} (e_pR5 : (fun k => σ.1 (6000 + 16 * k + 5)) = p_road_wait) {p_road_number : Nat → Int32} (e_pR6 : (fun k => σ.1 (6000 + 16 * k + 6)) = p_road_number) {p_word_place : Nat → Int32} (e_pW0 : (fun k => σ.1 (8000 + 16 * k + 0)) = p_word_place) {p_word_road : Nat → Int32} (e_pW1 : (fun k => σ.1 (8000 + 16 * k + 1)) = p_word_road) {p_word_hours : Nat → Int32} (e_pW2 : (fun k => σ.1 (8000 + 16 * k + 2)) = p_word_hours) {g_grid : Nat → Nat → Int32} (e_gG0 : (fun k => σ.2.2.1 (4000 + 16 * k)) = g_grid) (hf : xo_X5_lay_2_TB z_TB_by z_L_places z_L_to z_Ld_size z_Lw_size z_TB_none a_UNIT a_Lw_data a_L_seen a_W_likely a_TB_value n_r n_w p_road_hours p_road_wait p_road_number p_word_place p_word_road p_word_hours g_grid x1 = some w_aL1150) : CtG l D G dsc ad yX5_lay_2 (ws_ yX5_lay_2 cX5_lay_2 4 (Option.none : Option Jvm.ClassFile.FieldType)) rmX5_lay_2_TB [.ref (ad 1060), .int x1] σ none (aL σ 1150 w_aL1150) := by
  subst e_zI1062
  subst e_zI2008
  subst e_zI2013
  subst e_zI2027
  subst e_zI2032
  subst e_zL1061
  subst e_aI1170
  subst e_aI2037
  subst e_aI2043
  subst e_aL1141
  subst e_aL1150
  subst e_nN0
  subst e_nN1
  subst e_pR2
  subst e_pR5
  subst e_pR6
  subst e_pW0
  subst e_pW1
  subst e_pW2
  subst e_gG0
  exact p_ctG (by decide +kernel) (Nat.le_of_ble_eq_true rfl) (fun p e s m below meth c0 ls A E hP hX hA hS hl => wkX5_lay_2_TB E hX hD hA hf rfl hP hS hl)
theorem ux_X5_23_1060 {σ1 : Sto} (E : EN p s m args meth c0 RX5 cc nL ret) (hX : KX D G ad A s s.heap) (hD : XD dsc nr nw nu) (hP : PIC D clsA G dsc ad σ H) (hS : va_S A s.heap H locs) (hA : A (ad 1060)) (hσ : zI σ 1062 0 = σ1) (hdg : decode cc pc = .ok (.putfield 23, 3)) (kk : ∀ (H1 : Heap) (locs1 : List Loc), PIC D clsA G dsc ad σ1 H1 → va_S A s.heap H1 locs1 → W p l e R s m args below meth c0 H1 locs1 cells slots Q (F0 m (pc + 3) ls rest)) : W p l e R s m args below meth c0 H locs cells slots Q (F0 m pc ls (.ref (ad 1050) :: .ref (ad 1060) :: rest)) :=
  p_putr2 E.1.1 E.1.2.1 E.1.2.2.2.2 in_X6 tyX6 tyX6_ok E.1.2.2.2.1 hX.1 hP hS hA (hD.1 _ _ dX_1060) rfl 2 (by decide) (by decide +kernel) (E.1.2.2.2.2 _ q363) (fun _ h => h) rfl rfl rfl rfl rfl hσ hdg kk
theorem cx_X5_43_X3_knowns {rm : Room} {σ1 : Sto} {r : Int32} (E : EN p s m args meth c0 RX5 cc nL ret) (hX : KX D G ad A s s.heap) (hD : XD dsc nr nw nu) (hP : PIC D clsA G dsc ad σ H) (hS : va_S A s.heap H locs) (hA : ∀ q, PA dsc ad s.heap.size q → A q) (hM : CtG l D G dsc ad yX3_knowns (ws_ yX3_knowns cX3_knowns 1 (Option.some Jvm.ClassFile.FieldType.int)) rm [.ref (ad 2000)] σ (some (.int r)) σ1) (hz : rm.cells = 0 ∧ rm.slots = 0) (hR : rm.frames + 1 ≤ R.frames ∧ 8 + (1 + 11) + rm.locals ≤ R.locals) (hcs : cells ≤ R.cells ∧ slots ≤ R.slots) (hsz : ls.size = nL) (hW : (rest.map fun v => v.category).sum ≤ 8) (hdg : decode cc pc = .ok (.invokevirtual 43, 3)) (kk : ∀ (H1 : Heap) (locs1 : List Loc), PIC D clsA G dsc ad σ1 H1 → va_S A s.heap H1 locs1 → W p l e R s m args below meth c0 H1 locs1 cells slots Q (F0 m (pc + 3) ls (.int r :: rest))) : W p l e R s m args below meth c0 H locs cells slots Q (F0 m pc ls (.ref (ad 2000) :: rest)) :=
  p_gV (As := []) (rest := rest) E.1 hX hP hS hA hM (cwV 0 E.1.2.2.2.2 (lw_V q1052 q1028 q1029 q126 q1030) rfl hz.1 hz.2 (by decide +kernel) hR) (hD.1 _ _ dX_2000) rfl rfl rfl hsz rfl hW hdg hcs kk
theorem cx_X5_51_X5_notKnown_TB {rm : Room} {σ1 : Sto} {x1 : Int32} {r : Int32} (E : EN p s m args meth c0 RX5 cc nL ret) (hX : KX D G ad A s s.heap) (hD : XD dsc nr nw nu) (hP : PIC D clsA G dsc ad σ H) (hS : va_S A s.heap H locs) (hA : ∀ q, PA dsc ad s.heap.size q → A q) (hM : CtG l D G dsc ad yX5_notKnown (ws_ yX5_notKnown cX5_notKnown 4 (Option.some Jvm.ClassFile.FieldType.int)) rm [.ref (ad 1060), .int x1] σ (some (.int r)) σ1) (hz : rm.cells = 0 ∧ rm.slots = 0) (hR : rm.frames + 1 ≤ R.frames ∧ 8 + (4 + 11) + rm.locals ≤ R.locals) (hcs : cells ≤ R.cells ∧ slots ≤ R.slots) (hsz : ls.size = nL) (hW : (rest.map fun v => v.category).sum ≤ 8) (hdg : decode cc pc = .ok (.invokevirtual 51, 3)) (kk : ∀ (H1 : Heap) (locs1 : List Loc), PIC D clsA G dsc ad σ1 H1 → va_S A s.heap H1 locs1 → W p l e R s m args below meth c0 H1 locs1 cells slots Q (F0 m (pc + 3) ls (.int r :: rest))) : W p l e R s m args below meth c0 H locs cells slots Q (F0 m pc ls (.int x1 :: .ref (ad 1060) :: rest)) :=
  p_gU (As := [.int x1]) (rest := rest) E.1 hX hP hS hA hM (cw_any (owner := "ShutPasses$Table") (x := ⟨"ShutPasses$Table", "notKnown", "(I)I"⟩) (y := yX5_notKnown) (C := "ShutPasses$InMean") (index := 51) (own := RX5) 1 E.1.2.2.2.2 (lw_meth q1059) rfl hz.1 hz.2 (E.1.2.2.2.2 _ q1053) (E.1.2.2.2.2 _ q1055) (va_Decl.of (E.1.2.2.2.2 _ q1054) (E.1.2.2.2.2 _ q1059)) (E.1.2.2.2.2 _ q1057) (E.1.2.2.2.2 _ q1054) (E.1.2.2.2.2 _ q131) (by decide +kernel) hR) (hD.1 _ _ dX_1060) rfl rfl rfl hsz rfl hW hdg hcs kk
theorem cx_X5_55_X5_lay_2_TB {rm : Room} {σ1 : Sto} {x1 : Int32} (E : EN p s m args meth c0 RX5 cc nL ret) (hX : KX D G ad A s s.heap) (hD : XD dsc nr nw nu) (hP : PIC D clsA G dsc ad σ H) (hS : va_S A s.heap H locs) (hA : ∀ q, PA dsc ad s.heap.size q → A q) (hM : CtG l D G dsc ad yX5_lay_2 (ws_ yX5_lay_2 cX5_lay_2 4 (Option.none : Option Jvm.ClassFile.FieldType)) rm [.ref (ad 1060), .int x1] σ none σ1) (hz : rm.cells = 0 ∧ rm.slots = 0) (hR : rm.frames + 1 ≤ R.frames ∧ 8 + (4 + 11) + rm.locals ≤ R.locals) (hcs : cells ≤ R.cells ∧ slots ≤ R.slots) (hsz : ls.size = nL) (hW : (rest.map fun v => v.category).sum ≤ 8) (hdg : decode cc pc = .ok (.invokevirtual 55, 3)) (kk : ∀ (H1 : Heap) (locs1 : List Loc), PIC D clsA G dsc ad σ1 H1 → va_S A s.heap H1 locs1 → W p l e R s m args below meth c0 H1 locs1 cells slots Q (F0 m (pc + 3) ls (rest))) : W p l e R s m args below meth c0 H locs cells slots Q (F0 m pc ls (.int x1 :: .ref (ad 1060) :: rest)) :=
  p_gU (As := [.int x1]) (rest := rest) E.1 hX hP hS hA hM (cw_any (owner := "ShutPasses$Table") (x := ⟨"ShutPasses$Table", "lay", "(I)V"⟩) (y := yX5_lay_2) (C := "ShutPasses$InMean") (index := 55) (own := RX5) 1 E.1.2.2.2.2 (lw_meth q1064) rfl hz.1 hz.2 (E.1.2.2.2.2 _ q1061) (E.1.2.2.2.2 _ q2278) (va_Decl.of (E.1.2.2.2.2 _ q1063) (E.1.2.2.2.2 _ q1064)) (va_Nw.use rfl (hX.2.1.2 ("ShutPasses$InMean", yX5_lay_2) (by decide +kernel))) (E.1.2.2.2.2 _ q1063) (E.1.2.2.2.2 _ q131) (by decide +kernel) hR) (hD.1 _ _ dX_1060) rfl rfl rfl hsz rfl hW hdg hcs kk
/-! X5_lay_TB_W (LShutPasses$Weights;)V -/
def sgX5_lay_TB_W (σ : Sto) (w0 : Int32) (w1 : Nat → Int64) : Sto := aL (zI σ 1062 w0) 1150 w1
theorem sgX5_lay_TB_W_self (σ : Sto) : sgX5_lay_TB_W σ (σ.1 1062) (σ.2.2.2.1 1150) = σ := by
  unfold sgX5_lay_TB_W
  simp only [zI_self, zL_self, aI_self, aL_self]
theorem sgX5_lay_TB_W_zI1062 {σ : Sto} {w0 : Int32} {w1 : Nat → Int64} {g : Int32} : zI (sgX5_lay_TB_W σ w0 w1) 1062 g = sgX5_lay_TB_W σ g w1 := (cm_zI_aL _ _ _ _ _).trans (congrArg (fun z => aL z 1150 w1) (zI_zI _ 1062 _ _))
theorem sgX5_lay_TB_W_aL1150 {σ : Sto} {w0 : Int32} {w1 : Nat → Int64} {g : Nat → Int64} : aL (sgX5_lay_TB_W σ w0 w1) 1150 g = sgX5_lay_TB_W σ w0 g := aL_aL _ 1150 _ _
theorem sgX5_lay_TB_W_rzI1062 {σ : Sto} {w0 : Int32} {w1 : Nat → Int64} : (sgX5_lay_TB_W σ w0 w1).1 1062 = w0 := rfl
theorem sgX5_lay_TB_W_rzI2008 {σ : Sto} {w0 : Int32} {w1 : Nat → Int64} : (sgX5_lay_TB_W σ w0 w1).1 2008 = σ.1 2008 := rfl
theorem sgX5_lay_TB_W_rzI2013 {σ : Sto} {w0 : Int32} {w1 : Nat → Int64} : (sgX5_lay_TB_W σ w0 w1).1 2013 = σ.1 2013 := rfl
theorem sgX5_lay_TB_W_rzI2027 {σ : Sto} {w0 : Int32} {w1 : Nat → Int64} : (sgX5_lay_TB_W σ w0 w1).1 2027 = σ.1 2027 := rfl
theorem sgX5_lay_TB_W_rzI2032 {σ : Sto} {w0 : Int32} {w1 : Nat → Int64} : (sgX5_lay_TB_W σ w0 w1).1 2032 = σ.1 2032 := rfl
theorem sgX5_lay_TB_W_rzL1061 {σ : Sto} {w0 : Int32} {w1 : Nat → Int64} : (sgX5_lay_TB_W σ w0 w1).2.1 1061 = σ.2.1 1061 := rfl
theorem sgX5_lay_TB_W_raI1170 {σ : Sto} {w0 : Int32} {w1 : Nat → Int64} : (sgX5_lay_TB_W σ w0 w1).2.2.1 1170 = σ.2.2.1 1170 := rfl
theorem sgX5_lay_TB_W_raI2037 {σ : Sto} {w0 : Int32} {w1 : Nat → Int64} : (sgX5_lay_TB_W σ w0 w1).2.2.1 2037 = σ.2.2.1 2037 := rfl
theorem sgX5_lay_TB_W_raI2043 {σ : Sto} {w0 : Int32} {w1 : Nat → Int64} : (sgX5_lay_TB_W σ w0 w1).2.2.1 2043 = σ.2.2.1 2043 := rfl
theorem sgX5_lay_TB_W_raL1141 {σ : Sto} {w0 : Int32} {w1 : Nat → Int64} : (sgX5_lay_TB_W σ w0 w1).2.2.2.1 1141 = σ.2.2.2.1 1141 := rfl
theorem sgX5_lay_TB_W_raL1150 {σ : Sto} {w0 : Int32} {w1 : Nat → Int64} : (sgX5_lay_TB_W σ w0 w1).2.2.2.1 1150 = w1 := rfl
theorem sgX5_lay_TB_W_rpR2 {σ : Sto} {w0 : Int32} {w1 : Nat → Int64} : (fun k => (sgX5_lay_TB_W σ w0 w1).1 (6000 + 16 * k + 2)) = (fun k => σ.1 (6000 + 16 * k + 2)) := by
  funext k
  unfold sgX5_lay_TB_W
  dsimp only [zI, zL, aI, aL]
  repeat rw [if_neg (by omega)]
theorem sgX5_lay_TB_W_rpR5 {σ : Sto} {w0 : Int32} {w1 : Nat → Int64} : (fun k => (sgX5_lay_TB_W σ w0 w1).1 (6000 + 16 * k + 5)) = (fun k => σ.1 (6000 + 16 * k + 5)) := by
  funext k
  unfold sgX5_lay_TB_W
  dsimp only [zI, zL, aI, aL]
  repeat rw [if_neg (by omega)]
theorem sgX5_lay_TB_W_rpR6 {σ : Sto} {w0 : Int32} {w1 : Nat → Int64} : (fun k => (sgX5_lay_TB_W σ w0 w1).1 (6000 + 16 * k + 6)) = (fun k => σ.1 (6000 + 16 * k + 6)) := by
  funext k
  unfold sgX5_lay_TB_W
  dsimp only [zI, zL, aI, aL]
  repeat rw [if_neg (by omega)]
theorem sgX5_lay_TB_W_rpW0 {σ : Sto} {w0 : Int32} {w1 : Nat → Int64} : (fun k => (sgX5_lay_TB_W σ w0 w1).1 (8000 + 16 * k + 0)) = (fun k => σ.1 (8000 + 16 * k + 0)) := by
  funext k
  unfold sgX5_lay_TB_W
  dsimp only [zI, zL, aI, aL]
  repeat rw [if_neg (by omega)]
theorem sgX5_lay_TB_W_rpW1 {σ : Sto} {w0 : Int32} {w1 : Nat → Int64} : (fun k => (sgX5_lay_TB_W σ w0 w1).1 (8000 + 16 * k + 1)) = (fun k => σ.1 (8000 + 16 * k + 1)) := by
  funext k
  unfold sgX5_lay_TB_W
  dsimp only [zI, zL, aI, aL]
  repeat rw [if_neg (by omega)]
theorem sgX5_lay_TB_W_rpW2 {σ : Sto} {w0 : Int32} {w1 : Nat → Int64} : (fun k => (sgX5_lay_TB_W σ w0 w1).1 (8000 + 16 * k + 2)) = (fun k => σ.1 (8000 + 16 * k + 2)) := by
  funext k
  unfold sgX5_lay_TB_W
  dsimp only [zI, zL, aI, aL]
  repeat rw [if_neg (by omega)]
theorem sgX5_lay_TB_W_rgG0 {σ : Sto} {w0 : Int32} {w1 : Nat → Int64} : (fun k => (sgX5_lay_TB_W σ w0 w1).2.2.1 (4000 + 16 * k)) = (fun k => σ.2.2.1 (4000 + 16 * k)) := by
  funext k
  unfold sgX5_lay_TB_W
  dsimp only [zI, zL, aI, aL]
  repeat rw [if_neg (by omega)]
abbrev rmX5_lay_TB_W : Room := { frames := 47, cells := 0, slots := 0, locals := 1291 }
set_option maxHeartbeats 4000000 in
theorem wkX5_lay_TB_W {w_zI1062 : Int32} {w_aL1150 : Nat → Int64} (E : EN p s m args meth c0 RX5 cX5_lay 4 (Option.none : Option Jvm.ClassFile.FieldType)) (hX : KX D G ad A s s.heap) (hD : XD dsc nr nw nu) (hA : ∀ q, PA dsc ad s.heap.size q → A q) (hf : xo_X5_lay_TB_W (σ.1 1062) (σ.1 2008) (σ.1 2013) (σ.1 2027) (σ.1 2032) (σ.2.1 1061) (σ.2.2.1 1170) (σ.2.2.1 2037) (σ.2.2.1 2043) (σ.2.2.2.1 1141) (σ.2.2.2.1 1150) nr nw (fun k => σ.1 (6000 + 16 * k + 2)) (fun k => σ.1 (6000 + 16 * k + 5)) (fun k => σ.1 (6000 + 16 * k + 6)) (fun k => σ.1 (8000 + 16 * k + 0)) (fun k => σ.1 (8000 + 16 * k + 1)) (fun k => σ.1 (8000 + 16 * k + 2)) (fun k => σ.2.2.1 (4000 + 16 * k)) = some (w_zI1062, w_aL1150)) (hQ : Q = MQ below (va_G1 none (fun t => PIC D clsA G dsc ad (sgX5_lay_TB_W σ w_zI1062 w_aL1150) t.heap) A) args s 0 0 A) (hP : PIC D clsA G dsc ad σ H) (hS : va_S A s.heap H locs) (hl : lv_has ls 4 [(0, .ref (ad 1060)), (1, .ref (ad 1050))]) : W p l e rmX5_lay_TB_W s m args below meth c0 H locs 0 0 Q (F0 m 0 ls []) := by
  obtain ⟨⟨hx, hb, hml, hown, hts⟩, hr, hlk⟩ := id E
  have hP := hP.to (sgX5_lay_TB_W_self σ).symm
  unfold xo_X5_lay_TB_W at hf
  refine lv_aload_n hx hb dX5_lay_0 rfl (lv_at hl 0 rfl) ?_
  refine lv_aload_n hx hb dX5_lay_1 rfl (lv_at hl 1 rfl) ?_
  refine ux_X5_23_1060 E hX hD hP hS (hA _ (PA_c (hD.1 _ _ dX_1060))) sgX5_lay_TB_W_zI1062 dX5_lay_2 (fun H locs hP hS => ?_)
  refine lv_iconst hx hb dX5_lay_5 ic_0 ?_
  refine lv_istore_n (lv' := [(2, .int 0), (0, .ref (ad 1060)), (1, .ref (ad 1050))]) hx hb dX5_lay_6 rfl hl (by decide) rfl (fun ls hl => ?_)
  have LP7 : ∀ (st7 : Int32 × (Nat → Int64)) (ex7 : ((Nat → Int64))), loop (xo_X5_lay_TB_W_L7 (σ.1 2008) (σ.1 2013) (σ.1 2027) (σ.1 2032) (σ.2.1 1061) (σ.2.2.1 1170) (σ.2.2.1 2037) (σ.2.2.1 2043) (σ.2.2.2.1 1141) nr nw (fun k => σ.1 (6000 + 16 * k + 2)) (fun k => σ.1 (6000 + 16 * k + 5)) (fun k => σ.1 (6000 + 16 * k + 6)) (fun k => σ.1 (8000 + 16 * k + 0)) (fun k => σ.1 (8000 + 16 * k + 1)) (fun k => σ.1 (8000 + 16 * k + 2)) (fun k => σ.2.2.1 (4000 + 16 * k))) st7 = some ex7 → ∀ (H : Heap) (locs : List Loc), PIC D clsA G dsc ad (sgX5_lay_TB_W σ 0 (st7.2)) H → va_S A s.heap H locs → ∀ (ls : Array Slot), lv_has ls 4 [(0, .ref (ad 1060)), (2, .int (st7.1))] → (∀ (a23 : Nat → Int64), ex7 = a23 → ∀ (H : Heap) (locs : List Loc), PIC D clsA G dsc ad (sgX5_lay_TB_W σ 0 a23) H → va_S A s.heap H locs → ∀ (ls : Array Slot), lv_has ls 4 [] → W p l e rmX5_lay_TB_W s m args below meth c0 H locs 0 0 Q (F0 m 80 ls [])) → W p l e rmX5_lay_TB_W s m args below meth c0 H locs 0 0 Q (F0 m 7 ls []) := by
    refine loop_P (fun st7 ex7 o7 hf ih7 hx7 => ?_)
    obtain ⟨y1, a2⟩ := st7
    intro H locs (hP : PIC D clsA G dsc ad (sgX5_lay_TB_W σ 0 a2) H) hS ls (hl : lv_has ls 4 [(0, .ref (ad 1060)), (2, .int y1)]) KE7_0
    dsimp only [xo_X5_lay_TB_W_L7] at hf
    refine lv_iload_n hx hb dX5_lay_7 rfl (lv_at hl 1 rfl) ?_
    refine lv_aload_n hx hb dX5_lay_8 rfl (lv_at hl 0 rfl) ?_
    refine gx_X5_3_1060 E hX hD hP dX5_lay_9 ?_
    refine gx_X5_27_1000 E hX hD hP dX5_lay_12 ?_
    refine gx_X5_31_2000 E hX hD hP dX5_lay_15 ?_
    obtain ⟨v3, u4, hf⟩ := bdP hf
    refine cx_X5_37_J2_size_Ld E hX hD hP hS hA (kxJ2_size_Ld l D G hD sgX5_lay_TB_W_rzI2027 u4) ⟨rfl, rfl⟩ ⟨Nat.le_of_ble_eq_true rfl, Nat.le_of_ble_eq_true rfl⟩ ⟨Nat.zero_le _, Nat.zero_le _⟩ hl.1 (Nat.le_of_ble_eq_true rfl) dX5_lay_18 (fun H locs hP hS => ?_)
    refine lv_icmp_gt (tgt := 80) hx hb dX5_lay_21 (by decide) (fun c5 => ?_) (fun c5 => ?_)
    · have hf := ifT c5 hf
      exact KE7_0 _ (hx7 _ (Option.some.inj hf).symm).symm H locs hP hS ls (lv_sub hl [] rfl)
    · have hf := ifF c5 hf
      refine lv_iconst hx hb dX5_lay_24 ic_0 ?_
      refine lv_istore_n (lv' := [(3, .int 0), (0, .ref (ad 1060)), (2, .int y1)]) hx hb dX5_lay_25 rfl hl (by decide) rfl (fun ls hl => ?_)
      have LP26 : ∀ (st26 : Int32 × (Nat → Int64)) (ex26 : ((Nat → Int64))), loop (xo_X5_lay_TB_W_L26 (σ.1 2008) (σ.1 2013) (σ.1 2027) (σ.1 2032) (σ.2.1 1061) (σ.2.2.1 1170) (σ.2.2.1 2037) (σ.2.2.1 2043) (σ.2.2.2.1 1141) nr nw (fun k => σ.1 (6000 + 16 * k + 2)) (fun k => σ.1 (6000 + 16 * k + 5)) (fun k => σ.1 (6000 + 16 * k + 6)) (fun k => σ.1 (8000 + 16 * k + 0)) (fun k => σ.1 (8000 + 16 * k + 1)) (fun k => σ.1 (8000 + 16 * k + 2)) (fun k => σ.2.2.1 (4000 + 16 * k)) y1) st26 = some ex26 → ∀ (H : Heap) (locs : List Loc), PIC D clsA G dsc ad (sgX5_lay_TB_W σ 0 (st26.2)) H → va_S A s.heap H locs → ∀ (ls : Array Slot), lv_has ls 4 [(0, .ref (ad 1060)), (2, .int y1), (3, .int (st26.1))] → (∀ (a21 : Nat → Int64), ex26 = a21 → ∀ (H : Heap) (locs : List Loc), PIC D clsA G dsc ad (sgX5_lay_TB_W σ 0 a21) H → va_S A s.heap H locs → ∀ (ls : Array Slot), lv_has ls 4 [(0, .ref (ad 1060)), (2, .int y1)] → W p l e rmX5_lay_TB_W s m args below meth c0 H locs 0 0 Q (F0 m 74 ls [])) → W p l e rmX5_lay_TB_W s m args below meth c0 H locs 0 0 Q (F0 m 26 ls []) := by
        refine loop_P (fun st26 ex26 o26 hf ih26 hx26 => ?_)
        obtain ⟨y6, a7⟩ := st26
        intro H locs (hP : PIC D clsA G dsc ad (sgX5_lay_TB_W σ 0 a7) H) hS ls (hl : lv_has ls 4 [(0, .ref (ad 1060)), (2, .int y1), (3, .int y6)]) KE26_0
        dsimp only [xo_X5_lay_TB_W_L26] at hf
        refine lv_iload_n hx hb dX5_lay_26 rfl (lv_at hl 2 rfl) ?_
        refine lv_aload_n hx hb dX5_lay_27 rfl (lv_at hl 0 rfl) ?_
        refine gx_X5_3_1060 E hX hD hP dX5_lay_28 ?_
        refine gx_X5_27_1000 E hX hD hP dX5_lay_31 ?_
        obtain ⟨v8, u9, hf⟩ := bdP hf
        refine cx_X5_43_X3_knowns E hX hD hP hS hA (kxX3_knowns l D G hD sgX5_lay_TB_W_rzI2027 sgX5_lay_TB_W_raI1170 u9) ⟨rfl, rfl⟩ ⟨Nat.le_of_ble_eq_true rfl, Nat.le_of_ble_eq_true rfl⟩ ⟨Nat.zero_le _, Nat.zero_le _⟩ hl.1 (Nat.le_of_ble_eq_true rfl) dX5_lay_34 (fun H locs hP hS => ?_)
        refine lv_icmp_ge (tgt := 74) hx hb dX5_lay_37 (by decide) (fun c10 => ?_) (fun c10 => ?_)
        · have hf := ifT c10 hf
          exact KE26_0 _ (hx26 _ (Option.some.inj hf).symm).symm H locs hP hS ls (lv_sub hl [0, 1] rfl)
        · have hf := ifF c10 hf
          refine lv_aload_n hx hb dX5_lay_40 rfl (lv_at hl 0 rfl) ?_
          refine gx_X5_23_1060 (v := 0) E hX hD hP sgX5_lay_TB_W_rzI1062 dX5_lay_41 ?_
          obtain ⟨v11, hv11, hf⟩ := bdP hf
          refine p_nn0 (ckz_some hv11) ?_
          refine gx_X5_46_1050 E hX hD hP dX5_lay_44 ?_
          refine lv_iload_n hx hb dX5_lay_47 rfl (lv_at hl 2 rfl) ?_
          obtain ⟨v12, hv12, hf⟩ := bdP hf
          refine p_lald hx hb hX.1 hP (hD.1 _ _ dX_1141) sgX5_lay_TB_W_raL1141 hv12 dX5_lay_48 ?_
          refine lv_lconst hx hb dX5_lay_49 lc_0 ?_
          refine W.lcmp hx hb dX5_lay_50 ?_
          have J68 : ∀ (a13 : Nat → Int64), xo_X5_lay_TB_W_J68 y6 a13 = some o26 → ∀ (H : Heap) (locs : List Loc), PIC D clsA G dsc ad (sgX5_lay_TB_W σ 0 a13) H → va_S A s.heap H locs → ∀ (ls : Array Slot), lv_has ls 4 [(0, .ref (ad 1060)), (2, .int y1), (3, .int y6)] → W p l e rmX5_lay_TB_W s m args below meth c0 H locs 0 0 Q (F0 m 68 ls []) := by
            intro a13 hf H locs hP hS ls hl
            unfold xo_X5_lay_TB_W_J68 at hf
            obtain ⟨v14, hv14, hf⟩ := bdP hf
            refine lv_iinc (v := v14) (lv' := [(3, .int v14), (0, .ref (ad 1060)), (2, .int y1)]) hx hb dX5_lay_68 hl (k := 2) rfl (Option.some.inj hv14) (by decide) rfl (fun ls hl => ?_)
            refine lv_goto (tgt := 26) hx hb dX5_lay_71 (by decide) ?_
            exact ih26 _ (Option.some.inj hf).symm H locs hP hS ls (lv_sub hl [1, 2, 0] rfl) KE26_0
          refine lv_if_le (tgt := 68) hx hb dX5_lay_51 (by decide) (fun c15 => ?_) (fun c15 => ?_)
          · have hf := ifT ((lgc_le _ _).mp c15) hf
            exact J68 a7 hf H locs hP hS ls (lv_sub hl [0, 1, 2] rfl)
          · have hf := ifF (mt (lgc_le _ _).mpr c15) hf
            refine lv_aload_n hx hb dX5_lay_54 rfl (lv_at hl 0 rfl) ?_
            refine lv_iload_n hx hb dX5_lay_55 rfl (lv_at hl 2 rfl) ?_
            obtain ⟨v16, u17, hf⟩ := bdP hf
            refine cx_X5_51_X5_notKnown_TB E hX hD hP hS hA (kxX5_notKnown_TB l D G hD sgX5_lay_TB_W_rzI2027 sgX5_lay_TB_W_raI1170 u17) ⟨rfl, rfl⟩ ⟨Nat.le_of_ble_eq_true rfl, Nat.le_of_ble_eq_true rfl⟩ ⟨Nat.zero_le _, Nat.zero_le _⟩ hl.1 (Nat.le_of_ble_eq_true rfl) dX5_lay_56 (fun H locs hP hS => ?_)
            refine lv_iload_n hx hb dX5_lay_59 rfl (lv_at hl 1 rfl) ?_
            refine lv_icmp_ne (tgt := 68) hx hb dX5_lay_60 (by decide) (fun c18 => ?_) (fun c18 => ?_)
            · have hf := ifF c18 hf
              exact J68 a7 hf H locs hP hS ls (lv_sub hl [0, 1, 2] rfl)
            · have hf := ifT c18 hf
              refine lv_aload_n hx hb dX5_lay_63 rfl (lv_at hl 0 rfl) ?_
              refine lv_iload_n hx hb dX5_lay_64 rfl (lv_at hl 2 rfl) ?_
              obtain ⟨a19, u20, hf⟩ := bdP hf
              refine cx_X5_55_X5_lay_2_TB E hX hD hP hS hA (kxX5_lay_2_TB l D G hD sgX5_lay_TB_W_rzI1062 sgX5_lay_TB_W_rzI2008 sgX5_lay_TB_W_rzI2013 sgX5_lay_TB_W_rzI2027 sgX5_lay_TB_W_rzI2032 sgX5_lay_TB_W_rzL1061 sgX5_lay_TB_W_raI1170 sgX5_lay_TB_W_raI2037 sgX5_lay_TB_W_raI2043 sgX5_lay_TB_W_raL1141 sgX5_lay_TB_W_raL1150 rfl rfl sgX5_lay_TB_W_rpR2 sgX5_lay_TB_W_rpR5 sgX5_lay_TB_W_rpR6 sgX5_lay_TB_W_rpW0 sgX5_lay_TB_W_rpW1 sgX5_lay_TB_W_rpW2 sgX5_lay_TB_W_rgG0 u20) ⟨rfl, rfl⟩ ⟨Nat.le_of_ble_eq_true rfl, Nat.le_of_ble_eq_true rfl⟩ ⟨Nat.zero_le _, Nat.zero_le _⟩ hl.1 (Nat.le_of_ble_eq_true rfl) dX5_lay_65 (fun H locs hP hS => ?_)
              rw [sgX5_lay_TB_W_aL1150] at hP
              exact J68 a19 hf H locs hP hS ls (lv_sub hl [0, 1, 2] rfl)
      obtain ⟨ex26, hlp26, hf⟩ := bdP hf
      refine LP26 (0, a2) ex26 hlp26 H locs hP hS ls (lv_sub hl [1, 2, 0] rfl) ?_
      intro a21 hex26 H locs hP hS ls hl
      subst ex26
      obtain ⟨v22, hv22, hf⟩ := bdP hf
      refine lv_iinc (v := v22) (lv' := [(2, .int v22), (0, .ref (ad 1060))]) hx hb dX5_lay_74 hl (k := 1) rfl (Option.some.inj hv22) (by decide) rfl (fun ls hl => ?_)
      refine lv_goto (tgt := 7) hx hb dX5_lay_77 (by decide) ?_
      exact ih7 _ (Option.some.inj hf).symm H locs hP hS ls (lv_sub hl [1, 0] rfl) KE7_0
  obtain ⟨ex7, hlp7, hf⟩ := bdP hf
  refine LP7 (0, (σ.2.2.2.1 1150)) ex7 hlp7 H locs hP hS ls (lv_sub hl [1, 0] rfl) ?_
  intro a23 hex7 H locs hP hS ls hl
  subst ex7
  cases hf
  rw [hQ]; exact g_vret hx hb hr hlk hP hS dX5_lay_80
theorem kxX5_lay_TB_W (l : Launch) (D : va_G) (G : Nat → ClassId) {dsc : Nat → Option Dsc} {ad : Nat → Nat} {σ : Sto} {nr nw nu : Nat} (hD : XD dsc nr nw nu) {w_zI1062 : Int32} {w_aL1150 : Nat → Int64} {z_TB_by : Int32} (e_zI1062 : σ.1 1062 = z_TB_by) {z_L_places : Int32} (e_zI2008 : σ.1 2008 = z_L_places) {z_L_to : Int32} (e_zI2013 : σ.1 2013 = z_L_to) {z_Ld_size : Int32} (e_zI2027 : σ.1 2027 = z_Ld_size) {z_Lw_size : Int32} (e_zI2032 : σ.1 2032 = z_Lw_size) {z_TB_none : Int64} (e_zL1061 : σ.2.1 1061 = z_TB_none) {a_UNIT : Nat → Int32} (e_aI1170 : σ.2.2.1 1170 = a_UNIT) {a_Lw_data : Nat → Int32} (e_aI2037 : σ.2.2.1 2037 = a_Lw_data) {a_L_seen : Nat → Int32} (e_aI2043 : σ.2.2.1 2043 = a_L_seen) {a_W_likely : Nat → Int64} (e_aL1141 : σ.2.2.2.1 1141 = a_W_likely) {a_TB_value : Nat → Int64} (e_aL1150 : σ.2.2.2.1 1150 = a_TB_value) {n_r : Nat} (e_nN0 : nr = n_r) {n_w : Nat} (e_nN1 : nw = n_w) {p_road_hours : Nat → Int32} (e_pR2 : (fun k => σ.1 (6000 + 16 * k + 2)) = p_road_hours) {p_road_wait : Nat → Int32} (e_pR5 : (fun k => σ.1 (6000 + 16 * k + 5)) = p_road_wait) {p_road_number : Nat → Int32} (e_pR6 : (fun k => σ.1 (6000 + 16 * k + 6)) = p_road_number) {p_word_place : Nat → Int32} (e_pW0 : (fun k => σ.1 (8000 + 16 * k + 0)) = p_word_place) {p_word_road : Nat → Int32} (e_pW1 : (fun k => σ.1 (8000 + 16 * k + 1)) = p_word_road) {p_word_hours : Nat → Int32} (e_pW2 : (fun k => σ.1 (8000 + 16 * k + 2)) = p_word_hours) {g_grid : Nat → Nat → Int32} (e_gG0 : (fun k => σ.2.2.1 (4000 + 16 * k)) = g_grid) (hf : xo_X5_lay_TB_W z_TB_by z_L_places z_L_to z_Ld_size z_Lw_size z_TB_none a_UNIT a_Lw_data a_L_seen a_W_likely a_TB_value n_r n_w p_road_hours p_road_wait p_road_number p_word_place p_word_road p_word_hours g_grid = some (w_zI1062, w_aL1150)) : CtG l D G dsc ad yX5_lay (ws_ yX5_lay cX5_lay 4 (Option.none : Option Jvm.ClassFile.FieldType)) rmX5_lay_TB_W [.ref (ad 1060), .ref (ad 1050)] σ none (aL (zI σ 1062 w_zI1062) 1150 w_aL1150) := by
  subst e_zI1062
  subst e_zI2008
  subst e_zI2013
  subst e_zI2027
  subst e_zI2032
  subst e_zL1061
  subst e_aI1170
  subst e_aI2037
  subst e_aI2043
  subst e_aL1141
  subst e_aL1150
  subst e_nN0
  subst e_nN1
  subst e_pR2
  subst e_pR5
  subst e_pR6
  subst e_pW0
  subst e_pW1
  subst e_pW2
  subst e_gG0
  exact p_ctG (by decide +kernel) (Nat.le_of_ble_eq_true rfl) (fun p e s m below meth c0 ls A E hP hX hA hS hl => wkX5_lay_TB_W E hX hD hA hf rfl hP hS hl)
/-! X5_notKnown_TS (I)I -/
abbrev rmX5_notKnown_TS : Room := { frames := 1, cells := 0, slots := 0, locals := 21 }
set_option maxHeartbeats 4000000 in
theorem wkX5_notKnown_TS {x1 : Int32} {r_ : Int32} (E : EN p s m args meth c0 RX5 cX5_notKnown 4 (Option.some Jvm.ClassFile.FieldType.int)) (hX : KX D G ad A s s.heap) (hD : XD dsc nr nw nu) (hA : ∀ q, PA dsc ad s.heap.size q → A q) (hf : xo_X5_notKnown_TS (σ.1 2027) (σ.2.2.1 1170) x1 = some r_) (hQ : Q = MQ below (va_G1 (some (.int r_)) (fun t => PIC D clsA G dsc ad σ t.heap) A) args s 0 0 A) (hP : PIC D clsA G dsc ad σ H) (hS : va_S A s.heap H locs) (hl : lv_has ls 4 [(0, .ref (ad 1080)), (1, .int x1)]) : W p l e rmX5_notKnown_TS s m args below meth c0 H locs 0 0 Q (F0 m 0 ls []) := by
  obtain ⟨⟨hx, hb, hml, hown, hts⟩, hr, hlk⟩ := id E
  unfold xo_X5_notKnown_TS at hf
  refine lv_iconst hx hb dX5_notKnown_0 ic_0 ?_
  refine lv_istore_n (lv' := [(2, .int 0), (0, .ref (ad 1080)), (1, .int x1)]) hx hb dX5_notKnown_1 rfl hl (by decide) rfl (fun ls hl => ?_)
  refine lv_iconst hx hb dX5_notKnown_2 ic_0 ?_
  refine lv_istore_n (lv' := [(3, .int 0), (2, .int 0), (0, .ref (ad 1080)), (1, .int x1)]) hx hb dX5_notKnown_3 rfl hl (by decide) rfl (fun ls hl => ?_)
  have LP4 : ∀ (st4 : Int32 × Int32) (ex4 : (Int32)), loop (xo_X5_notKnown_TS_L4 (σ.1 2027) (σ.2.2.1 1170) x1) st4 = some ex4 → ∀ (H : Heap) (locs : List Loc), PIC D clsA G dsc ad σ H → va_S A s.heap H locs → ∀ (ls : Array Slot), lv_has ls 4 [(0, .ref (ad 1080)), (1, .int x1), (2, .int (st4.1)), (3, .int (st4.2))] → (∀ (y13 : Int32), ex4 = y13 → ∀ (H : Heap) (locs : List Loc), PIC D clsA G dsc ad σ H → va_S A s.heap H locs → ∀ (ls : Array Slot), lv_has ls 4 [(2, .int y13)] → W p l e rmX5_notKnown_TS s m args below meth c0 H locs 0 0 Q (F0 m 43 ls [])) → W p l e rmX5_notKnown_TS s m args below meth c0 H locs 0 0 Q (F0 m 4 ls []) := by
    refine loop_P (fun st4 ex4 o4 hf ih4 hx4 => ?_)
    obtain ⟨y1, y2⟩ := st4
    intro H locs (hP : PIC D clsA G dsc ad σ H) hS ls (hl : lv_has ls 4 [(0, .ref (ad 1080)), (1, .int x1), (2, .int y1), (3, .int y2)]) KE4_0
    dsimp only [xo_X5_notKnown_TS_L4] at hf
    refine lv_iload_n hx hb dX5_notKnown_4 rfl (lv_at hl 3 rfl) ?_
    refine lv_aload_n hx hb dX5_notKnown_5 rfl (lv_at hl 0 rfl) ?_
    refine gx_X5_3_1080 E hX hD hP dX5_notKnown_6 ?_
    refine gx_X5_27_1000 E hX hD hP dX5_notKnown_9 ?_
    refine gx_X5_31_2000 E hX hD hP dX5_notKnown_12 ?_
    obtain ⟨v3, u4, hf⟩ := bdP hf
    refine cx_X5_37_J2_size_Ld E hX hD hP hS hA (kxJ2_size_Ld l D G hD rfl u4) ⟨rfl, rfl⟩ ⟨Nat.le_of_ble_eq_true rfl, Nat.le_of_ble_eq_true rfl⟩ ⟨Nat.zero_le _, Nat.zero_le _⟩ hl.1 (Nat.le_of_ble_eq_true rfl) dX5_notKnown_15 (fun H locs hP hS => ?_)
    refine lv_icmp_ge (tgt := 43) hx hb dX5_notKnown_18 (by decide) (fun c5 => ?_) (fun c5 => ?_)
    · have hf := ifT c5 hf
      exact KE4_0 _ (hx4 _ (Option.some.inj hf).symm).symm H locs hP hS ls (lv_sub hl [2] rfl)
    · have hf := ifF c5 hf
      refine lv_iload_n hx hb dX5_notKnown_21 rfl (lv_at hl 2 rfl) ?_
      refine lv_iload_n hx hb dX5_notKnown_22 rfl (lv_at hl 1 rfl) ?_
      refine lv_iload_n hx hb dX5_notKnown_23 rfl (lv_at hl 3 rfl) ?_
      obtain ⟨v6, u7, hf⟩ := bdP hf
      refine cx_X5_59_X1_digit E hX hD hP hS hA (kxX1_digit l D G hD rfl u7) ⟨rfl, rfl⟩ ⟨Nat.le_of_ble_eq_true rfl, Nat.le_of_ble_eq_true rfl⟩ ⟨Nat.zero_le _, Nat.zero_le _⟩ hl.1 (Nat.le_of_ble_eq_true rfl) dX5_notKnown_24 (fun H locs hP hS => ?_)
      have J35 : ∀ (k8 : Int32) (k9 : Int32), xo_X5_notKnown_TS_J35 y2 k8 k9 = some o4 → ∀ (H : Heap) (locs : List Loc), PIC D clsA G dsc ad σ H → va_S A s.heap H locs → ∀ (ls : Array Slot), lv_has ls 4 [(0, .ref (ad 1080)), (1, .int x1), (3, .int y2)] → W p l e rmX5_notKnown_TS s m args below meth c0 H locs 0 0 Q (F0 m 35 ls [.int k8, .int k9]) := by
        intro k8 k9 hf H locs hP hS ls hl
        unfold xo_X5_notKnown_TS_J35 at hf
        refine lv_iadd hx hb dX5_notKnown_35 ?_
        obtain ⟨v10, hv10, hf⟩ := bdP hf
        refine nm_i (Option.some.inj hv10) ?_
        refine lv_istore_n (lv' := [(2, .int v10), (0, .ref (ad 1080)), (1, .int x1), (3, .int y2)]) hx hb dX5_notKnown_36 rfl hl (by decide) rfl (fun ls hl => ?_)
        obtain ⟨v11, hv11, hf⟩ := bdP hf
        refine lv_iinc (v := v11) (lv' := [(3, .int v11), (2, .int v10), (0, .ref (ad 1080)), (1, .int x1)]) hx hb dX5_notKnown_37 hl (k := 3) rfl (Option.some.inj hv11) (by decide) rfl (fun ls hl => ?_)
        refine lv_goto (tgt := 4) hx hb dX5_notKnown_40 (by decide) ?_
        exact ih4 _ (Option.some.inj hf).symm H locs hP hS ls (lv_sub hl [2, 3, 1, 0] rfl) KE4_0
      refine lv_if_ne (tgt := 34) hx hb dX5_notKnown_27 (by decide) (fun c12 => ?_) (fun c12 => ?_)
      · have hf := ifF c12 hf
        refine lv_iconst hx hb dX5_notKnown_34 ic_0 ?_
        exact J35 0 y1 hf H locs hP hS ls (lv_sub hl [0, 1, 3] rfl)
      · have hf := ifT c12 hf
        refine lv_iconst hx hb dX5_notKnown_30 ic_1 ?_
        refine lv_goto (tgt := 35) hx hb dX5_notKnown_31 (by decide) ?_
        exact J35 1 y1 hf H locs hP hS ls (lv_sub hl [0, 1, 3] rfl)
  obtain ⟨ex4, hlp4, hf⟩ := bdP hf
  refine LP4 (0, 0) ex4 hlp4 H locs hP hS ls (lv_sub hl [2, 3, 1, 0] rfl) ?_
  intro y13 hex4 H locs hP hS ls hl
  subst ex4
  refine lv_iload_n hx hb dX5_notKnown_43 rfl (lv_at hl 0 rfl) ?_
  cases hf
  rw [hQ]; exact g_iret hx hb hr hlk hP hS dX5_notKnown_44
theorem kxX5_notKnown_TS (l : Launch) (D : va_G) (G : Nat → ClassId) {dsc : Nat → Option Dsc} {ad : Nat → Nat} {σ : Sto} {nr nw nu : Nat} (hD : XD dsc nr nw nu) {x1 : Int32} {r_ : Int32} {z_Ld_size : Int32} (e_zI2027 : σ.1 2027 = z_Ld_size) {a_UNIT : Nat → Int32} (e_aI1170 : σ.2.2.1 1170 = a_UNIT) (hf : xo_X5_notKnown_TS z_Ld_size a_UNIT x1 = some r_) : CtG l D G dsc ad yX5_notKnown (ws_ yX5_notKnown cX5_notKnown 4 (Option.some Jvm.ClassFile.FieldType.int)) rmX5_notKnown_TS [.ref (ad 1080), .int x1] σ (some (.int r_)) σ := by
  subst e_zI2027
  subst e_aI1170
  exact p_ctG (by decide +kernel) (Nat.le_of_ble_eq_true rfl) (fun p e s m below meth c0 ls A E hP hX hA hS hl => wkX5_notKnown_TS E hX hD hA hf rfl hP hS hl)
/-! X6_isBetter_TS (JJ)Z -/
abbrev rmX6_isBetter_TS : Room := { frames := 0, cells := 0, slots := 0, locals := 0 }
set_option maxHeartbeats 4000000 in
theorem wkX6_isBetter_TS {x1 : Int64} {x3 : Int64} {r_ : Int32} (E : EN p s m args meth c0 RX6 cX6_isBetter 5 (Option.some Jvm.ClassFile.FieldType.boolean)) (hX : KX D G ad A s s.heap) (hD : XD dsc nr nw nu) (hA : ∀ q, PA dsc ad s.heap.size q → A q) (hf : xo_X6_isBetter_TS x1 x3 = some r_) (hQ : Q = MQ below (va_G1 (some (.int r_)) (fun t => PIC D clsA G dsc ad σ t.heap) A) args s 0 0 A) (hP : PIC D clsA G dsc ad σ H) (hS : va_S A s.heap H locs) (hl : lv_has ls 5 [(0, .ref (ad 1080)), (1, .long x1), (3, .long x3)]) : W p l e rmX6_isBetter_TS s m args below meth c0 H locs 0 0 Q (F0 m 0 ls []) := by
  obtain ⟨⟨hx, hb, hml, hown, hts⟩, hr, hlk⟩ := id E
  unfold xo_X6_isBetter_TS at hf
  refine lv_lload_n hx hb dX6_isBetter_0 rfl (lv_at hl 1 rfl) ?_
  refine lv_lload_n hx hb dX6_isBetter_1 rfl (lv_at hl 2 rfl) ?_
  refine W.lcmp hx hb dX6_isBetter_2 ?_
  refine lv_if_ge (tgt := 10) hx hb dX6_isBetter_3 (by decide) (fun c1 => ?_) (fun c1 => ?_)
  · have hf := ifT ((lgc_ge _ _).mp c1) hf
    refine lv_iconst hx hb dX6_isBetter_10 ic_0 ?_
    cases hf
    rw [hQ]; exact g_nret hx hb hr hlk hP hS rfl dX6_isBetter_11
  · have hf := ifF (mt (lgc_ge _ _).mpr c1) hf
    refine lv_iconst hx hb dX6_isBetter_6 ic_1 ?_
    refine lv_goto (tgt := 11) hx hb dX6_isBetter_7 (by decide) ?_
    cases hf
    rw [hQ]; exact g_nret hx hb hr hlk hP hS rfl dX6_isBetter_11
theorem kxX6_isBetter_TS (l : Launch) (D : va_G) (G : Nat → ClassId) {dsc : Nat → Option Dsc} {ad : Nat → Nat} {σ : Sto} {nr nw nu : Nat} (hD : XD dsc nr nw nu) {x1 : Int64} {x3 : Int64} {r_ : Int32} (hf : xo_X6_isBetter_TS x1 x3 = some r_) : CtG l D G dsc ad yX6_isBetter (ws_ yX6_isBetter cX6_isBetter 5 (Option.some Jvm.ClassFile.FieldType.boolean)) rmX6_isBetter_TS [.ref (ad 1080), .long x1, .long x3] σ (some (.int r_)) σ := by
  exact p_ctG (by decide +kernel) (Nat.le_of_ble_eq_true rfl) (fun p e s m below meth c0 ls A E hP hX hA hS hl => wkX6_isBetter_TS E hX hD hA hf rfl hP hS hl)
theorem cx_X5_98_X6_isBetter_TS {rm : Room} {σ1 : Sto} {x1 : Int64} {x3 : Int64} {r : Int32} (E : EN p s m args meth c0 RX5 cc nL ret) (hX : KX D G ad A s s.heap) (hD : XD dsc nr nw nu) (hP : PIC D clsA G dsc ad σ H) (hS : va_S A s.heap H locs) (hA : ∀ q, PA dsc ad s.heap.size q → A q) (hM : CtG l D G dsc ad yX6_isBetter (ws_ yX6_isBetter cX6_isBetter 5 (Option.some Jvm.ClassFile.FieldType.boolean)) rm [.ref (ad 1080), .long x1, .long x3] σ (some (.int r)) σ1) (hz : rm.cells = 0 ∧ rm.slots = 0) (hR : rm.frames + 1 ≤ R.frames ∧ 8 + (5 + 11) + rm.locals ≤ R.locals) (hcs : cells ≤ R.cells ∧ slots ≤ R.slots) (hsz : ls.size = nL) (hW : (rest.map fun v => v.category).sum ≤ 8) (hdg : decode cc pc = .ok (.invokevirtual 98, 3)) (kk : ∀ (H1 : Heap) (locs1 : List Loc), PIC D clsA G dsc ad σ1 H1 → va_S A s.heap H1 locs1 → W p l e R s m args below meth c0 H1 locs1 cells slots Q (F0 m (pc + 3) ls (.int r :: rest))) : W p l e R s m args below meth c0 H locs cells slots Q (F0 m pc ls (.long x3 :: .long x1 :: .ref (ad 1080) :: rest)) :=
  p_gU (As := [.long x1, .long x3]) (rest := rest) E.1 hX hP hS hA hM (cw_any (owner := "ShutPasses$Table") (x := ⟨"ShutPasses$Table", "isBetter", "(JJ)Z"⟩) (y := yX6_isBetter) (C := "ShutPasses$AtWorst") (index := 98) (own := RX5) 2 E.1.2.2.2.2 (lw_meth q1176) rfl hz.1 hz.2 (E.1.2.2.2.2 _ q1171) (E.1.2.2.2.2 _ q1173) (va_Decl.abs (hX.2.1.1 _ q1172 rfl)) (E.1.2.2.2.2 _ q1174) (E.1.2.2.2.2 _ q1175) (E.1.2.2.2.2 _ q132) (by decide +kernel) hR) (hD.1 _ _ dX_1080) rfl rfl rfl hsz rfl hW hdg hcs kk
/-! X5_better_TS (JJ)J -/
abbrev rmX5_better_TS : Room := { frames := 1, cells := 0, slots := 0, locals := 24 }
set_option maxHeartbeats 4000000 in
theorem wkX5_better_TS {x1 : Int64} {x3 : Int64} {r_ : Int64} (E : EN p s m args meth c0 RX5 cX5_better 5 (Option.some Jvm.ClassFile.FieldType.long)) (hX : KX D G ad A s s.heap) (hD : XD dsc nr nw nu) (hA : ∀ q, PA dsc ad s.heap.size q → A q) (hf : xo_X5_better_TS (σ.2.1 1081) x1 x3 = some r_) (hQ : Q = MQ below (va_G1 (some (.long r_)) (fun t => PIC D clsA G dsc ad σ t.heap) A) args s 0 0 A) (hP : PIC D clsA G dsc ad σ H) (hS : va_S A s.heap H locs) (hl : lv_has ls 5 [(0, .ref (ad 1080)), (1, .long x1), (3, .long x3)]) : W p l e rmX5_better_TS s m args below meth c0 H locs 0 0 Q (F0 m 0 ls []) := by
  obtain ⟨⟨hx, hb, hml, hown, hts⟩, hr, hlk⟩ := id E
  unfold xo_X5_better_TS at hf
  refine lv_lload_n hx hb dX5_better_0 rfl (lv_at hl 2 rfl) ?_
  refine lv_aload_n hx hb dX5_better_1 rfl (lv_at hl 0 rfl) ?_
  refine gx_X5_19_1080 (v := (σ.2.1 1081)) E hX hD hP rfl dX5_better_2 ?_
  refine W.lcmp hx hb dX5_better_5 ?_
  have J31 : xo_X5_better_TS_J31 x1 = some r_ → ∀ (H : Heap) (locs : List Loc), PIC D clsA G dsc ad σ H → va_S A s.heap H locs → ∀ (ls : Array Slot), lv_has ls 5 [(1, .long x1)] → W p l e rmX5_better_TS s m args below meth c0 H locs 0 0 Q (F0 m 31 ls []) := by
    intro  hf H locs hP hS ls hl
    unfold xo_X5_better_TS_J31 at hf
    refine lv_lload_n hx hb dX5_better_31 rfl (lv_at hl 0 rfl) ?_
    cases hf
    rw [hQ]; exact g_lret hx hb hr hlk hP hS dX5_better_32
  refine lv_if_eq (tgt := 31) hx hb dX5_better_6 (by decide) (fun c1 => ?_) (fun c1 => ?_)
  · have hf := ifT ((lgc_eq _ _).mp c1) hf
    exact J31  hf H locs hP hS ls (lv_sub hl [1] rfl)
  · have hf := ifF (mt (lgc_eq _ _).mpr c1) hf
    refine lv_lload_n hx hb dX5_better_9 rfl (lv_at hl 1 rfl) ?_
    refine lv_aload_n hx hb dX5_better_10 rfl (lv_at hl 0 rfl) ?_
    refine gx_X5_19_1080 (v := (σ.2.1 1081)) E hX hD hP rfl dX5_better_11 ?_
    refine W.lcmp hx hb dX5_better_14 ?_
    have J27 : xo_X5_better_TS_J27 x3 = some r_ → ∀ (H : Heap) (locs : List Loc), PIC D clsA G dsc ad σ H → va_S A s.heap H locs → ∀ (ls : Array Slot), lv_has ls 5 [(3, .long x3)] → W p l e rmX5_better_TS s m args below meth c0 H locs 0 0 Q (F0 m 27 ls []) := by
      intro  hf H locs hP hS ls hl
      unfold xo_X5_better_TS_J27 at hf
      refine lv_lload_n hx hb dX5_better_27 rfl (lv_at hl 0 rfl) ?_
      refine lv_goto (tgt := 32) hx hb dX5_better_28 (by decide) ?_
      cases hf
      rw [hQ]; exact g_lret hx hb hr hlk hP hS dX5_better_32
    refine lv_if_eq (tgt := 27) hx hb dX5_better_15 (by decide) (fun c2 => ?_) (fun c2 => ?_)
    · have hf := ifT ((lgc_eq _ _).mp c2) hf
      exact J27  hf H locs hP hS ls (lv_sub hl [2] rfl)
    · have hf := ifF (mt (lgc_eq _ _).mpr c2) hf
      refine lv_aload_n hx hb dX5_better_18 rfl (lv_at hl 0 rfl) ?_
      refine lv_lload_n hx hb dX5_better_19 rfl (lv_at hl 2 rfl) ?_
      refine lv_lload_n hx hb dX5_better_20 rfl (lv_at hl 1 rfl) ?_
      obtain ⟨v3, u4, hf⟩ := bdP hf
      refine cx_X5_98_X6_isBetter_TS E hX hD hP hS hA (kxX6_isBetter_TS l D G hD u4) ⟨rfl, rfl⟩ ⟨Nat.le_of_ble_eq_true rfl, Nat.le_of_ble_eq_true rfl⟩ ⟨Nat.zero_le _, Nat.zero_le _⟩ hl.1 (Nat.le_of_ble_eq_true rfl) dX5_better_21 (fun H locs hP hS => ?_)
      refine lv_if_eq (tgt := 31) hx hb dX5_better_24 (by decide) (fun c5 => ?_) (fun c5 => ?_)
      · have hf := ifT c5 hf
        exact J31  hf H locs hP hS ls (lv_sub hl [1] rfl)
      · have hf := ifF c5 hf
        exact J27  hf H locs hP hS ls (lv_sub hl [2] rfl)
theorem kxX5_better_TS (l : Launch) (D : va_G) (G : Nat → ClassId) {dsc : Nat → Option Dsc} {ad : Nat → Nat} {σ : Sto} {nr nw nu : Nat} (hD : XD dsc nr nw nu) {x1 : Int64} {x3 : Int64} {r_ : Int64} {z_TS_none : Int64} (e_zL1081 : σ.2.1 1081 = z_TS_none) (hf : xo_X5_better_TS z_TS_none x1 x3 = some r_) : CtG l D G dsc ad yX5_better (ws_ yX5_better cX5_better 5 (Option.some Jvm.ClassFile.FieldType.long)) rmX5_better_TS [.ref (ad 1080), .long x1, .long x3] σ (some (.long r_)) σ := by
  subst e_zL1081
  exact p_ctG (by decide +kernel) (Nat.le_of_ble_eq_true rfl) (fun p e s m below meth c0 ls A E hP hX hA hS hl => wkX5_better_TS E hX hD hA hf rfl hP hS hl)
theorem cx_X5_88_X5_better_TS {rm : Room} {σ1 : Sto} {x1 : Int64} {x3 : Int64} {r : Int64} (E : EN p s m args meth c0 RX5 cc nL ret) (hX : KX D G ad A s s.heap) (hD : XD dsc nr nw nu) (hP : PIC D clsA G dsc ad σ H) (hS : va_S A s.heap H locs) (hA : ∀ q, PA dsc ad s.heap.size q → A q) (hM : CtG l D G dsc ad yX5_better (ws_ yX5_better cX5_better 5 (Option.some Jvm.ClassFile.FieldType.long)) rm [.ref (ad 1080), .long x1, .long x3] σ (some (.long r)) σ1) (hz : rm.cells = 0 ∧ rm.slots = 0) (hR : rm.frames + 1 ≤ R.frames ∧ 8 + (5 + 11) + rm.locals ≤ R.locals) (hcs : cells ≤ R.cells ∧ slots ≤ R.slots) (hsz : ls.size = nL) (hW : (rest.map fun v => v.category).sum ≤ 8) (hdg : decode cc pc = .ok (.invokevirtual 88, 3)) (kk : ∀ (H1 : Heap) (locs1 : List Loc), PIC D clsA G dsc ad σ1 H1 → va_S A s.heap H1 locs1 → W p l e R s m args below meth c0 H1 locs1 cells slots Q (F0 m (pc + 3) ls (.long r :: rest))) : W p l e R s m args below meth c0 H locs cells slots Q (F0 m pc ls (.long x3 :: .long x1 :: .ref (ad 1080) :: rest)) :=
  p_gU (As := [.long x1, .long x3]) (rest := rest) E.1 hX hP hS hA hM (cw_any (owner := "ShutPasses$Table") (x := ⟨"ShutPasses$Table", "better", "(JJ)J"⟩) (y := yX5_better) (C := "ShutPasses$AtWorst") (index := 88) (own := RX5) 2 E.1.2.2.2.2 (lw_meth q1170) rfl hz.1 hz.2 (E.1.2.2.2.2 _ q1167) (E.1.2.2.2.2 _ q2282) (va_Decl.of (E.1.2.2.2.2 _ q1169) (E.1.2.2.2.2 _ q1170)) (va_Nw.use rfl (hX.2.1.2 ("ShutPasses$AtWorst", yX5_better) (by decide +kernel))) (E.1.2.2.2.2 _ q1169) (E.1.2.2.2.2 _ q131) (by decide +kernel) hR) (hD.1 _ _ dX_1080) rfl rfl rfl hsz rfl hW hdg hcs kk
/-! X5_betters_TS (II)Z -/
def sgX5_betters_TS (σ : Sto) (w0 : Nat → Int64) : Sto := aL σ 1152 w0
theorem sgX5_betters_TS_self (σ : Sto) : sgX5_betters_TS σ (σ.2.2.2.1 1152) = σ := by
  unfold sgX5_betters_TS
  simp only [zI_self, zL_self, aI_self, aL_self]
theorem sgX5_betters_TS_aL1152 {σ : Sto} {w0 : Nat → Int64} {g : Nat → Int64} : aL (sgX5_betters_TS σ w0) 1152 g = sgX5_betters_TS σ g := aL_aL _ 1152 _ _
theorem sgX5_betters_TS_rzI1082 {σ : Sto} {w0 : Nat → Int64} : (sgX5_betters_TS σ w0).1 1082 = σ.1 1082 := rfl
theorem sgX5_betters_TS_rzI2008 {σ : Sto} {w0 : Nat → Int64} : (sgX5_betters_TS σ w0).1 2008 = σ.1 2008 := rfl
theorem sgX5_betters_TS_rzI2013 {σ : Sto} {w0 : Nat → Int64} : (sgX5_betters_TS σ w0).1 2013 = σ.1 2013 := rfl
theorem sgX5_betters_TS_rzI2027 {σ : Sto} {w0 : Nat → Int64} : (sgX5_betters_TS σ w0).1 2027 = σ.1 2027 := rfl
theorem sgX5_betters_TS_rzI2032 {σ : Sto} {w0 : Nat → Int64} : (sgX5_betters_TS σ w0).1 2032 = σ.1 2032 := rfl
theorem sgX5_betters_TS_rzL1081 {σ : Sto} {w0 : Nat → Int64} : (sgX5_betters_TS σ w0).2.1 1081 = σ.2.1 1081 := rfl
theorem sgX5_betters_TS_raI1170 {σ : Sto} {w0 : Nat → Int64} : (sgX5_betters_TS σ w0).2.2.1 1170 = σ.2.2.1 1170 := rfl
theorem sgX5_betters_TS_raI2037 {σ : Sto} {w0 : Nat → Int64} : (sgX5_betters_TS σ w0).2.2.1 2037 = σ.2.2.1 2037 := rfl
theorem sgX5_betters_TS_raI2043 {σ : Sto} {w0 : Nat → Int64} : (sgX5_betters_TS σ w0).2.2.1 2043 = σ.2.2.1 2043 := rfl
theorem sgX5_betters_TS_raL1141 {σ : Sto} {w0 : Nat → Int64} : (sgX5_betters_TS σ w0).2.2.2.1 1141 = σ.2.2.2.1 1141 := rfl
theorem sgX5_betters_TS_raL1152 {σ : Sto} {w0 : Nat → Int64} : (sgX5_betters_TS σ w0).2.2.2.1 1152 = w0 := rfl
theorem sgX5_betters_TS_rpR2 {σ : Sto} {w0 : Nat → Int64} : (fun k => (sgX5_betters_TS σ w0).1 (6000 + 16 * k + 2)) = (fun k => σ.1 (6000 + 16 * k + 2)) := by
  funext k
  unfold sgX5_betters_TS
  dsimp only [zI, zL, aI, aL]
  repeat rw [if_neg (by omega)]
theorem sgX5_betters_TS_rpR5 {σ : Sto} {w0 : Nat → Int64} : (fun k => (sgX5_betters_TS σ w0).1 (6000 + 16 * k + 5)) = (fun k => σ.1 (6000 + 16 * k + 5)) := by
  funext k
  unfold sgX5_betters_TS
  dsimp only [zI, zL, aI, aL]
  repeat rw [if_neg (by omega)]
theorem sgX5_betters_TS_rpR6 {σ : Sto} {w0 : Nat → Int64} : (fun k => (sgX5_betters_TS σ w0).1 (6000 + 16 * k + 6)) = (fun k => σ.1 (6000 + 16 * k + 6)) := by
  funext k
  unfold sgX5_betters_TS
  dsimp only [zI, zL, aI, aL]
  repeat rw [if_neg (by omega)]
theorem sgX5_betters_TS_rpW0 {σ : Sto} {w0 : Nat → Int64} : (fun k => (sgX5_betters_TS σ w0).1 (8000 + 16 * k + 0)) = (fun k => σ.1 (8000 + 16 * k + 0)) := by
  funext k
  unfold sgX5_betters_TS
  dsimp only [zI, zL, aI, aL]
  repeat rw [if_neg (by omega)]
theorem sgX5_betters_TS_rpW1 {σ : Sto} {w0 : Nat → Int64} : (fun k => (sgX5_betters_TS σ w0).1 (8000 + 16 * k + 1)) = (fun k => σ.1 (8000 + 16 * k + 1)) := by
  funext k
  unfold sgX5_betters_TS
  dsimp only [zI, zL, aI, aL]
  repeat rw [if_neg (by omega)]
theorem sgX5_betters_TS_rpW2 {σ : Sto} {w0 : Nat → Int64} : (fun k => (sgX5_betters_TS σ w0).1 (8000 + 16 * k + 2)) = (fun k => σ.1 (8000 + 16 * k + 2)) := by
  funext k
  unfold sgX5_betters_TS
  dsimp only [zI, zL, aI, aL]
  repeat rw [if_neg (by omega)]
theorem sgX5_betters_TS_rgG0 {σ : Sto} {w0 : Nat → Int64} : (fun k => (sgX5_betters_TS σ w0).2.2.1 (4000 + 16 * k)) = (fun k => σ.2.2.1 (4000 + 16 * k)) := by
  funext k
  unfold sgX5_betters_TS
  dsimp only [zI, zL, aI, aL]
  repeat rw [if_neg (by omega)]
abbrev rmX5_betters_TS : Room := { frames := 45, cells := 0, slots := 0, locals := 1243 }
set_option maxHeartbeats 4000000 in
theorem wkX5_betters_TS {x1 : Int32} {x2 : Int32} {r_ : Int32} {w_aL1152 : Nat → Int64} (E : EN p s m args meth c0 RX5 cX5_betters 8 (Option.some Jvm.ClassFile.FieldType.boolean)) (hX : KX D G ad A s s.heap) (hD : XD dsc nr nw nu) (hA : ∀ q, PA dsc ad s.heap.size q → A q) (hf : xo_X5_betters_TS (σ.1 1082) (σ.1 2008) (σ.1 2013) (σ.1 2027) (σ.1 2032) (σ.2.1 1081) (σ.2.2.1 1170) (σ.2.2.1 2037) (σ.2.2.1 2043) (σ.2.2.2.1 1141) (σ.2.2.2.1 1152) nr nw (fun k => σ.1 (6000 + 16 * k + 2)) (fun k => σ.1 (6000 + 16 * k + 5)) (fun k => σ.1 (6000 + 16 * k + 6)) (fun k => σ.1 (8000 + 16 * k + 0)) (fun k => σ.1 (8000 + 16 * k + 1)) (fun k => σ.1 (8000 + 16 * k + 2)) (fun k => σ.2.2.1 (4000 + 16 * k)) x1 x2 = some (r_, w_aL1152)) (hQ : Q = MQ below (va_G1 (some (.int r_)) (fun t => PIC D clsA G dsc ad (sgX5_betters_TS σ w_aL1152) t.heap) A) args s 0 0 A) (hP : PIC D clsA G dsc ad σ H) (hS : va_S A s.heap H locs) (hl : lv_has ls 8 [(0, .ref (ad 1080)), (1, .int x1), (2, .int x2)]) : W p l e rmX5_betters_TS s m args below meth c0 H locs 0 0 Q (F0 m 0 ls []) := by
  obtain ⟨⟨hx, hb, hml, hown, hts⟩, hr, hlk⟩ := id E
  have hP := hP.to (sgX5_betters_TS_self σ).symm
  unfold xo_X5_betters_TS at hf
  refine lv_aload_n hx hb dX5_betters_0 rfl (lv_at hl 0 rfl) ?_
  refine lv_iload_n hx hb dX5_betters_1 rfl (lv_at hl 1 rfl) ?_
  refine lv_iload_n hx hb dX5_betters_2 rfl (lv_at hl 2 rfl) ?_
  obtain ⟨v1, u2, hf⟩ := bdP hf
  refine cx_X5_81_X5_value_TS E hX hD hP hS hA (kxX5_value_TS l D G hD sgX5_betters_TS_raL1152 u2) ⟨rfl, rfl⟩ ⟨Nat.le_of_ble_eq_true rfl, Nat.le_of_ble_eq_true rfl⟩ ⟨Nat.zero_le _, Nat.zero_le _⟩ hl.1 (Nat.le_of_ble_eq_true rfl) dX5_betters_3 (fun H locs hP hS => ?_)
  refine lv_lstore_n (lv' := [(3, .long v1), (0, .ref (ad 1080)), (1, .int x1), (2, .int x2)]) hx hb dX5_betters_6 rfl hl (by decide) rfl (fun ls hl => ?_)
  refine lv_lload_n hx hb dX5_betters_7 rfl (lv_at hl 0 rfl) ?_
  refine lv_lstore (lv' := [(5, .long v1), (3, .long v1), (0, .ref (ad 1080)), (1, .int x1), (2, .int x2)]) hx hb dX5_betters_8 hl (by decide) rfl (fun ls hl => ?_)
  refine lv_iconst hx hb dX5_betters_10 ic_0 ?_
  refine lv_istore (lv' := [(7, .int 0), (5, .long v1), (3, .long v1), (0, .ref (ad 1080)), (1, .int x1), (2, .int x2)]) hx hb dX5_betters_11 hl (by decide) rfl (fun ls hl => ?_)
  have LP13 : ∀ (st13 : Int64 × Int32) (ex13 : (Int64)), loop (xo_X5_betters_TS_L13 (σ.1 1082) (σ.1 2008) (σ.1 2013) (σ.1 2027) (σ.2.1 1081) (σ.2.2.1 1170) (σ.2.2.1 2043) (σ.2.2.2.1 1141) (σ.2.2.2.1 1152) nr (fun k => σ.1 (6000 + 16 * k + 2)) (fun k => σ.1 (6000 + 16 * k + 5)) (fun k => σ.1 (6000 + 16 * k + 6)) (fun k => σ.2.2.1 (4000 + 16 * k)) x1 x2) st13 = some ex13 → ∀ (H : Heap) (locs : List Loc), PIC D clsA G dsc ad (sgX5_betters_TS σ (σ.2.2.2.1 1152)) H → va_S A s.heap H locs → ∀ (ls : Array Slot), lv_has ls 8 [(0, .ref (ad 1080)), (1, .int x1), (2, .int x2), (3, .long v1), (5, .long (st13.1)), (7, .int (st13.2))] → (∀ (y11 : Int64), ex13 = y11 → ∀ (H : Heap) (locs : List Loc), PIC D clsA G dsc ad (sgX5_betters_TS σ (σ.2.2.2.1 1152)) H → va_S A s.heap H locs → ∀ (ls : Array Slot), lv_has ls 8 [(0, .ref (ad 1080)), (1, .int x1), (2, .int x2), (3, .long v1), (5, .long y11)] → W p l e rmX5_betters_TS s m args below meth c0 H locs 0 0 Q (F0 m 50 ls [])) → W p l e rmX5_betters_TS s m args below meth c0 H locs 0 0 Q (F0 m 13 ls []) := by
    refine loop_P (fun st13 ex13 o13 hf ih13 hx13 => ?_)
    obtain ⟨y3, y4⟩ := st13
    intro H locs (hP : PIC D clsA G dsc ad (sgX5_betters_TS σ (σ.2.2.2.1 1152)) H) hS ls (hl : lv_has ls 8 [(0, .ref (ad 1080)), (1, .int x1), (2, .int x2), (3, .long v1), (5, .long y3), (7, .int y4)]) KE13_0
    dsimp only [xo_X5_betters_TS_L13] at hf
    refine lv_iload hx hb dX5_betters_13 (lv_at hl 5 rfl) ?_
    refine lv_aload_n hx hb dX5_betters_15 rfl (lv_at hl 0 rfl) ?_
    refine gx_X5_3_1080 E hX hD hP dX5_betters_16 ?_
    refine gx_X5_27_1000 E hX hD hP dX5_betters_19 ?_
    refine gx_X5_63_2000 (v := (σ.1 2008)) E hX hD hP sgX5_betters_TS_rzI2008 dX5_betters_22 ?_
    refine lv_icmp_ge (tgt := 50) hx hb dX5_betters_25 (by decide) (fun c5 => ?_) (fun c5 => ?_)
    · have hf := ifT c5 hf
      exact KE13_0 _ (hx13 _ (Option.some.inj hf).symm).symm H locs hP hS ls (lv_sub hl [0, 1, 2, 3, 4] rfl)
    · have hf := ifF c5 hf
      refine lv_aload_n hx hb dX5_betters_28 rfl (lv_at hl 0 rfl) ?_
      refine lv_lload hx hb dX5_betters_29 (lv_at hl 4 rfl) ?_
      refine lv_aload_n hx hb dX5_betters_31 rfl (lv_at hl 0 rfl) ?_
      refine lv_iload_n hx hb dX5_betters_32 rfl (lv_at hl 1 rfl) ?_
      refine lv_iload hx hb dX5_betters_33 (lv_at hl 5 rfl) ?_
      refine lv_iload_n hx hb dX5_betters_35 rfl (lv_at hl 2 rfl) ?_
      obtain ⟨v6, u7, hf⟩ := bdP hf
      refine cx_X5_84_X5_going_TS E hX hD hP hS hA (kxX5_going_TS l D G hD sgX5_betters_TS_rzI1082 sgX5_betters_TS_rzI2013 sgX5_betters_TS_rzI2027 sgX5_betters_TS_rzL1081 sgX5_betters_TS_raI1170 sgX5_betters_TS_raI2043 sgX5_betters_TS_raL1141 sgX5_betters_TS_raL1152 rfl sgX5_betters_TS_rpR2 sgX5_betters_TS_rpR5 sgX5_betters_TS_rpR6 sgX5_betters_TS_rgG0 u7) ⟨rfl, rfl⟩ ⟨Nat.le_of_ble_eq_true rfl, Nat.le_of_ble_eq_true rfl⟩ ⟨Nat.zero_le _, Nat.zero_le _⟩ hl.1 (Nat.le_of_ble_eq_true rfl) dX5_betters_36 (fun H locs hP hS => ?_)
      obtain ⟨v8, u9, hf⟩ := bdP hf
      refine cx_X5_88_X5_better_TS E hX hD hP hS hA (kxX5_better_TS l D G hD sgX5_betters_TS_rzL1081 u9) ⟨rfl, rfl⟩ ⟨Nat.le_of_ble_eq_true rfl, Nat.le_of_ble_eq_true rfl⟩ ⟨Nat.zero_le _, Nat.zero_le _⟩ hl.1 (Nat.le_of_ble_eq_true rfl) dX5_betters_39 (fun H locs hP hS => ?_)
      refine lv_lstore (lv' := [(5, .long v8), (0, .ref (ad 1080)), (1, .int x1), (2, .int x2), (3, .long v1), (7, .int y4)]) hx hb dX5_betters_42 hl (by decide) rfl (fun ls hl => ?_)
      obtain ⟨v10, hv10, hf⟩ := bdP hf
      refine lv_iinc (v := v10) (lv' := [(7, .int v10), (5, .long v8), (0, .ref (ad 1080)), (1, .int x1), (2, .int x2), (3, .long v1)]) hx hb dX5_betters_44 hl (k := 5) rfl (Option.some.inj hv10) (by decide) rfl (fun ls hl => ?_)
      refine lv_goto (tgt := 13) hx hb dX5_betters_47 (by decide) ?_
      exact ih13 _ (Option.some.inj hf).symm H locs hP hS ls (lv_sub hl [2, 3, 4, 5, 1, 0] rfl) KE13_0
  obtain ⟨ex13, hlp13, hf⟩ := bdP hf
  refine LP13 (v1, 0) ex13 hlp13 H locs hP hS ls (lv_sub hl [3, 4, 5, 2, 1, 0] rfl) ?_
  intro y11 hex13 H locs hP hS ls hl
  subst ex13
  refine lv_iconst hx hb dX5_betters_50 ic_0 ?_
  refine lv_istore (lv' := [(7, .int 0), (0, .ref (ad 1080)), (1, .int x1), (2, .int x2), (3, .long v1), (5, .long y11)]) hx hb dX5_betters_51 hl (by decide) rfl (fun ls hl => ?_)
  have LP53 : ∀ (st53 : Int64 × Int32) (ex53 : (Int64)), loop (xo_X5_betters_TS_L53 (σ.1 1082) (σ.1 2013) (σ.1 2027) (σ.1 2032) (σ.2.1 1081) (σ.2.2.1 1170) (σ.2.2.1 2037) (σ.2.2.1 2043) (σ.2.2.2.1 1141) (σ.2.2.2.1 1152) nw (fun k => σ.1 (8000 + 16 * k + 0)) (fun k => σ.1 (8000 + 16 * k + 1)) (fun k => σ.1 (8000 + 16 * k + 2)) x1 x2) st53 = some ex53 → ∀ (H : Heap) (locs : List Loc), PIC D clsA G dsc ad (sgX5_betters_TS σ (σ.2.2.2.1 1152)) H → va_S A s.heap H locs → ∀ (ls : Array Slot), lv_has ls 8 [(0, .ref (ad 1080)), (1, .int x1), (2, .int x2), (3, .long v1), (5, .long (st53.1)), (7, .int (st53.2))] → (∀ (y22 : Int64), ex53 = y22 → ∀ (H : Heap) (locs : List Loc), PIC D clsA G dsc ad (sgX5_betters_TS σ (σ.2.2.2.1 1152)) H → va_S A s.heap H locs → ∀ (ls : Array Slot), lv_has ls 8 [(0, .ref (ad 1080)), (1, .int x1), (2, .int x2), (3, .long v1), (5, .long y22)] → W p l e rmX5_betters_TS s m args below meth c0 H locs 0 0 Q (F0 m 93 ls [])) → W p l e rmX5_betters_TS s m args below meth c0 H locs 0 0 Q (F0 m 53 ls []) := by
    refine loop_P (fun st53 ex53 o53 hf ih53 hx53 => ?_)
    obtain ⟨y12, y13⟩ := st53
    intro H locs (hP : PIC D clsA G dsc ad (sgX5_betters_TS σ (σ.2.2.2.1 1152)) H) hS ls (hl : lv_has ls 8 [(0, .ref (ad 1080)), (1, .int x1), (2, .int x2), (3, .long v1), (5, .long y12), (7, .int y13)]) KE53_0
    dsimp only [xo_X5_betters_TS_L53] at hf
    refine lv_iload hx hb dX5_betters_53 (lv_at hl 5 rfl) ?_
    refine lv_aload_n hx hb dX5_betters_55 rfl (lv_at hl 0 rfl) ?_
    refine gx_X5_3_1080 E hX hD hP dX5_betters_56 ?_
    refine gx_X5_27_1000 E hX hD hP dX5_betters_59 ?_
    refine gx_X5_92_2000 E hX hD hP dX5_betters_62 ?_
    obtain ⟨v14, u15, hf⟩ := bdP hf
    refine cx_X5_37_J2_size_Lw E hX hD hP hS hA (kxJ2_size_Lw l D G hD sgX5_betters_TS_rzI2032 u15) ⟨rfl, rfl⟩ ⟨Nat.le_of_ble_eq_true rfl, Nat.le_of_ble_eq_true rfl⟩ ⟨Nat.zero_le _, Nat.zero_le _⟩ hl.1 (Nat.le_of_ble_eq_true rfl) dX5_betters_65 (fun H locs hP hS => ?_)
    refine lv_icmp_ge (tgt := 93) hx hb dX5_betters_68 (by decide) (fun c16 => ?_) (fun c16 => ?_)
    · have hf := ifT c16 hf
      exact KE53_0 _ (hx53 _ (Option.some.inj hf).symm).symm H locs hP hS ls (lv_sub hl [0, 1, 2, 3, 4] rfl)
    · have hf := ifF c16 hf
      refine lv_aload_n hx hb dX5_betters_71 rfl (lv_at hl 0 rfl) ?_
      refine lv_lload hx hb dX5_betters_72 (lv_at hl 4 rfl) ?_
      refine lv_aload_n hx hb dX5_betters_74 rfl (lv_at hl 0 rfl) ?_
      refine lv_iload_n hx hb dX5_betters_75 rfl (lv_at hl 1 rfl) ?_
      refine lv_iload hx hb dX5_betters_76 (lv_at hl 5 rfl) ?_
      refine lv_iload_n hx hb dX5_betters_78 rfl (lv_at hl 2 rfl) ?_
      obtain ⟨v17, u18, hf⟩ := bdP hf
      refine cx_X5_95_X5_buying_TS E hX hD hP hS hA (kxX5_buying_TS l D G hD sgX5_betters_TS_rzI1082 sgX5_betters_TS_rzI2013 sgX5_betters_TS_rzI2027 sgX5_betters_TS_rzI2032 sgX5_betters_TS_rzL1081 sgX5_betters_TS_raI1170 sgX5_betters_TS_raI2037 sgX5_betters_TS_raI2043 sgX5_betters_TS_raL1141 sgX5_betters_TS_raL1152 rfl sgX5_betters_TS_rpW0 sgX5_betters_TS_rpW1 sgX5_betters_TS_rpW2 u18) ⟨rfl, rfl⟩ ⟨Nat.le_of_ble_eq_true rfl, Nat.le_of_ble_eq_true rfl⟩ ⟨Nat.zero_le _, Nat.zero_le _⟩ hl.1 (Nat.le_of_ble_eq_true rfl) dX5_betters_79 (fun H locs hP hS => ?_)
      obtain ⟨v19, u20, hf⟩ := bdP hf
      refine cx_X5_88_X5_better_TS E hX hD hP hS hA (kxX5_better_TS l D G hD sgX5_betters_TS_rzL1081 u20) ⟨rfl, rfl⟩ ⟨Nat.le_of_ble_eq_true rfl, Nat.le_of_ble_eq_true rfl⟩ ⟨Nat.zero_le _, Nat.zero_le _⟩ hl.1 (Nat.le_of_ble_eq_true rfl) dX5_betters_82 (fun H locs hP hS => ?_)
      refine lv_lstore (lv' := [(5, .long v19), (0, .ref (ad 1080)), (1, .int x1), (2, .int x2), (3, .long v1), (7, .int y13)]) hx hb dX5_betters_85 hl (by decide) rfl (fun ls hl => ?_)
      obtain ⟨v21, hv21, hf⟩ := bdP hf
      refine lv_iinc (v := v21) (lv' := [(7, .int v21), (5, .long v19), (0, .ref (ad 1080)), (1, .int x1), (2, .int x2), (3, .long v1)]) hx hb dX5_betters_87 hl (k := 5) rfl (Option.some.inj hv21) (by decide) rfl (fun ls hl => ?_)
      refine lv_goto (tgt := 53) hx hb dX5_betters_90 (by decide) ?_
      exact ih53 _ (Option.some.inj hf).symm H locs hP hS ls (lv_sub hl [2, 3, 4, 5, 1, 0] rfl) KE53_0
  obtain ⟨ex53, hlp53, hf⟩ := bdP hf
  refine LP53 (y11, 0) ex53 hlp53 H locs hP hS ls (lv_sub hl [1, 2, 3, 4, 5, 0] rfl) ?_
  intro y22 hex53 H locs hP hS ls hl
  subst ex53
  refine lv_aload_n hx hb dX5_betters_93 rfl (lv_at hl 0 rfl) ?_
  refine gx_X5_15_1080 E hX hD hP dX5_betters_94 ?_
  refine lv_bipush hx hb dX5_betters_97 bp_10 ?_
  refine lv_iload_n hx hb dX5_betters_99 rfl (lv_at hl 2 rfl) ?_
  refine lv_imul hx hb dX5_betters_100 ?_
  refine lv_iload_n hx hb dX5_betters_101 rfl (lv_at hl 1 rfl) ?_
  refine lv_iadd hx hb dX5_betters_102 ?_
  refine lv_lload hx hb dX5_betters_103 (lv_at hl 4 rfl) ?_
  obtain ⟨a23, ha23, hf⟩ := bdP hf
  refine p_last hx hb hX.1 hP hS (hA _ (PA_c (hD.1 _ _ dX_1152))) (hD.1 _ _ dX_1152) sgX5_betters_TS_raL1152 ha23 sgX5_betters_TS_aL1152 dX5_betters_105 (fun H locs hP hS => ?_)
  refine lv_lload hx hb dX5_betters_106 (lv_at hl 4 rfl) ?_
  refine lv_lload_n hx hb dX5_betters_108 rfl (lv_at hl 3 rfl) ?_
  refine W.lcmp hx hb dX5_betters_109 ?_
  refine lv_if_eq (tgt := 117) hx hb dX5_betters_110 (by decide) (fun c24 => ?_) (fun c24 => ?_)
  · have hf := ifT ((lgc_eq _ _).mp c24) hf
    refine lv_iconst hx hb dX5_betters_117 ic_0 ?_
    cases hf
    rw [hQ]; exact g_nret hx hb hr hlk hP hS rfl dX5_betters_118
  · have hf := ifF (mt (lgc_eq _ _).mpr c24) hf
    refine lv_iconst hx hb dX5_betters_113 ic_1 ?_
    refine lv_goto (tgt := 118) hx hb dX5_betters_114 (by decide) ?_
    cases hf
    rw [hQ]; exact g_nret hx hb hr hlk hP hS rfl dX5_betters_118
theorem kxX5_betters_TS (l : Launch) (D : va_G) (G : Nat → ClassId) {dsc : Nat → Option Dsc} {ad : Nat → Nat} {σ : Sto} {nr nw nu : Nat} (hD : XD dsc nr nw nu) {x1 : Int32} {x2 : Int32} {r_ : Int32} {w_aL1152 : Nat → Int64} {z_TS_by : Int32} (e_zI1082 : σ.1 1082 = z_TS_by) {z_L_places : Int32} (e_zI2008 : σ.1 2008 = z_L_places) {z_L_to : Int32} (e_zI2013 : σ.1 2013 = z_L_to) {z_Ld_size : Int32} (e_zI2027 : σ.1 2027 = z_Ld_size) {z_Lw_size : Int32} (e_zI2032 : σ.1 2032 = z_Lw_size) {z_TS_none : Int64} (e_zL1081 : σ.2.1 1081 = z_TS_none) {a_UNIT : Nat → Int32} (e_aI1170 : σ.2.2.1 1170 = a_UNIT) {a_Lw_data : Nat → Int32} (e_aI2037 : σ.2.2.1 2037 = a_Lw_data) {a_L_seen : Nat → Int32} (e_aI2043 : σ.2.2.1 2043 = a_L_seen) {a_W_likely : Nat → Int64} (e_aL1141 : σ.2.2.2.1 1141 = a_W_likely) {a_TS_value : Nat → Int64} (e_aL1152 : σ.2.2.2.1 1152 = a_TS_value) {n_r : Nat} (e_nN0 : nr = n_r) {n_w : Nat} (e_nN1 : nw = n_w) {p_road_hours : Nat → Int32} (e_pR2 : (fun k => σ.1 (6000 + 16 * k + 2)) = p_road_hours) {p_road_wait : Nat → Int32} (e_pR5 : (fun k => σ.1 (6000 + 16 * k + 5)) = p_road_wait) {p_road_number : Nat → Int32} (e_pR6 : (fun k => σ.1 (6000 + 16 * k + 6)) = p_road_number) {p_word_place : Nat → Int32} (e_pW0 : (fun k => σ.1 (8000 + 16 * k + 0)) = p_word_place) {p_word_road : Nat → Int32} (e_pW1 : (fun k => σ.1 (8000 + 16 * k + 1)) = p_word_road) {p_word_hours : Nat → Int32} (e_pW2 : (fun k => σ.1 (8000 + 16 * k + 2)) = p_word_hours) {g_grid : Nat → Nat → Int32} (e_gG0 : (fun k => σ.2.2.1 (4000 + 16 * k)) = g_grid) (hf : xo_X5_betters_TS z_TS_by z_L_places z_L_to z_Ld_size z_Lw_size z_TS_none a_UNIT a_Lw_data a_L_seen a_W_likely a_TS_value n_r n_w p_road_hours p_road_wait p_road_number p_word_place p_word_road p_word_hours g_grid x1 x2 = some (r_, w_aL1152)) : CtG l D G dsc ad yX5_betters (ws_ yX5_betters cX5_betters 8 (Option.some Jvm.ClassFile.FieldType.boolean)) rmX5_betters_TS [.ref (ad 1080), .int x1, .int x2] σ (some (.int r_)) (aL σ 1152 w_aL1152) := by
  subst e_zI1082
  subst e_zI2008
  subst e_zI2013
  subst e_zI2027
  subst e_zI2032
  subst e_zL1081
  subst e_aI1170
  subst e_aI2037
  subst e_aI2043
  subst e_aL1141
  subst e_aL1152
  subst e_nN0
  subst e_nN1
  subst e_pR2
  subst e_pR5
  subst e_pR6
  subst e_pW0
  subst e_pW1
  subst e_pW2
  subst e_gG0
  exact p_ctG (by decide +kernel) (Nat.le_of_ble_eq_true rfl) (fun p e s m below meth c0 ls A E hP hX hA hS hl => wkX5_betters_TS E hX hD hA hf rfl hP hS hl)
theorem cx_X5_77_X5_betters_TS {rm : Room} {σ1 : Sto} {x1 : Int32} {x2 : Int32} {r : Int32} (E : EN p s m args meth c0 RX5 cc nL ret) (hX : KX D G ad A s s.heap) (hD : XD dsc nr nw nu) (hP : PIC D clsA G dsc ad σ H) (hS : va_S A s.heap H locs) (hA : ∀ q, PA dsc ad s.heap.size q → A q) (hM : CtG l D G dsc ad yX5_betters (ws_ yX5_betters cX5_betters 8 (Option.some Jvm.ClassFile.FieldType.boolean)) rm [.ref (ad 1080), .int x1, .int x2] σ (some (.int r)) σ1) (hz : rm.cells = 0 ∧ rm.slots = 0) (hR : rm.frames + 1 ≤ R.frames ∧ 8 + (8 + 11) + rm.locals ≤ R.locals) (hcs : cells ≤ R.cells ∧ slots ≤ R.slots) (hsz : ls.size = nL) (hW : (rest.map fun v => v.category).sum ≤ 8) (hdg : decode cc pc = .ok (.invokevirtual 77, 3)) (kk : ∀ (H1 : Heap) (locs1 : List Loc), PIC D clsA G dsc ad σ1 H1 → va_S A s.heap H1 locs1 → W p l e R s m args below meth c0 H1 locs1 cells slots Q (F0 m (pc + 3) ls (.int r :: rest))) : W p l e R s m args below meth c0 H locs cells slots Q (F0 m pc ls (.int x2 :: .int x1 :: .ref (ad 1080) :: rest)) :=
  p_gU (As := [.int x1, .int x2]) (rest := rest) E.1 hX hP hS hA hM (cw_any (owner := "ShutPasses$Table") (x := ⟨"ShutPasses$Table", "betters", "(II)Z"⟩) (y := yX5_betters) (C := "ShutPasses$AtWorst") (index := 77) (own := RX5) 2 E.1.2.2.2.2 (lw_meth q1089) rfl hz.1 hz.2 (E.1.2.2.2.2 _ q1086) (E.1.2.2.2.2 _ q2279) (va_Decl.of (E.1.2.2.2.2 _ q1088) (E.1.2.2.2.2 _ q1089)) (va_Nw.use rfl (hX.2.1.2 ("ShutPasses$AtWorst", yX5_betters) (by decide +kernel))) (E.1.2.2.2.2 _ q1088) (E.1.2.2.2.2 _ q131) (by decide +kernel) hR) (hD.1 _ _ dX_1080) rfl rfl rfl hsz rfl hW hdg hcs kk
/-! X5_lay_2_TS (I)V -/
def sgX5_lay_2_TS (σ : Sto) (w0 : Nat → Int64) : Sto := aL σ 1152 w0
theorem sgX5_lay_2_TS_self (σ : Sto) : sgX5_lay_2_TS σ (σ.2.2.2.1 1152) = σ := by
  unfold sgX5_lay_2_TS
  simp only [zI_self, zL_self, aI_self, aL_self]
theorem sgX5_lay_2_TS_aL1152 {σ : Sto} {w0 : Nat → Int64} {g : Nat → Int64} : aL (sgX5_lay_2_TS σ w0) 1152 g = sgX5_lay_2_TS σ g := aL_aL _ 1152 _ _
theorem sgX5_lay_2_TS_rzI1082 {σ : Sto} {w0 : Nat → Int64} : (sgX5_lay_2_TS σ w0).1 1082 = σ.1 1082 := rfl
theorem sgX5_lay_2_TS_rzI2008 {σ : Sto} {w0 : Nat → Int64} : (sgX5_lay_2_TS σ w0).1 2008 = σ.1 2008 := rfl
theorem sgX5_lay_2_TS_rzI2013 {σ : Sto} {w0 : Nat → Int64} : (sgX5_lay_2_TS σ w0).1 2013 = σ.1 2013 := rfl
theorem sgX5_lay_2_TS_rzI2027 {σ : Sto} {w0 : Nat → Int64} : (sgX5_lay_2_TS σ w0).1 2027 = σ.1 2027 := rfl
theorem sgX5_lay_2_TS_rzI2032 {σ : Sto} {w0 : Nat → Int64} : (sgX5_lay_2_TS σ w0).1 2032 = σ.1 2032 := rfl
theorem sgX5_lay_2_TS_rzL1081 {σ : Sto} {w0 : Nat → Int64} : (sgX5_lay_2_TS σ w0).2.1 1081 = σ.2.1 1081 := rfl
theorem sgX5_lay_2_TS_raI1170 {σ : Sto} {w0 : Nat → Int64} : (sgX5_lay_2_TS σ w0).2.2.1 1170 = σ.2.2.1 1170 := rfl
theorem sgX5_lay_2_TS_raI2037 {σ : Sto} {w0 : Nat → Int64} : (sgX5_lay_2_TS σ w0).2.2.1 2037 = σ.2.2.1 2037 := rfl
theorem sgX5_lay_2_TS_raI2043 {σ : Sto} {w0 : Nat → Int64} : (sgX5_lay_2_TS σ w0).2.2.1 2043 = σ.2.2.1 2043 := rfl
theorem sgX5_lay_2_TS_raL1141 {σ : Sto} {w0 : Nat → Int64} : (sgX5_lay_2_TS σ w0).2.2.2.1 1141 = σ.2.2.2.1 1141 := rfl
theorem sgX5_lay_2_TS_raL1152 {σ : Sto} {w0 : Nat → Int64} : (sgX5_lay_2_TS σ w0).2.2.2.1 1152 = w0 := rfl
theorem sgX5_lay_2_TS_rpR2 {σ : Sto} {w0 : Nat → Int64} : (fun k => (sgX5_lay_2_TS σ w0).1 (6000 + 16 * k + 2)) = (fun k => σ.1 (6000 + 16 * k + 2)) := by
  funext k
  unfold sgX5_lay_2_TS
  dsimp only [zI, zL, aI, aL]
  repeat rw [if_neg (by omega)]
theorem sgX5_lay_2_TS_rpR5 {σ : Sto} {w0 : Nat → Int64} : (fun k => (sgX5_lay_2_TS σ w0).1 (6000 + 16 * k + 5)) = (fun k => σ.1 (6000 + 16 * k + 5)) := by
  funext k
  unfold sgX5_lay_2_TS
  dsimp only [zI, zL, aI, aL]
  repeat rw [if_neg (by omega)]
theorem sgX5_lay_2_TS_rpR6 {σ : Sto} {w0 : Nat → Int64} : (fun k => (sgX5_lay_2_TS σ w0).1 (6000 + 16 * k + 6)) = (fun k => σ.1 (6000 + 16 * k + 6)) := by
  funext k
  unfold sgX5_lay_2_TS
  dsimp only [zI, zL, aI, aL]
  repeat rw [if_neg (by omega)]
theorem sgX5_lay_2_TS_rpW0 {σ : Sto} {w0 : Nat → Int64} : (fun k => (sgX5_lay_2_TS σ w0).1 (8000 + 16 * k + 0)) = (fun k => σ.1 (8000 + 16 * k + 0)) := by
  funext k
  unfold sgX5_lay_2_TS
  dsimp only [zI, zL, aI, aL]
  repeat rw [if_neg (by omega)]
theorem sgX5_lay_2_TS_rpW1 {σ : Sto} {w0 : Nat → Int64} : (fun k => (sgX5_lay_2_TS σ w0).1 (8000 + 16 * k + 1)) = (fun k => σ.1 (8000 + 16 * k + 1)) := by
  funext k
  unfold sgX5_lay_2_TS
  dsimp only [zI, zL, aI, aL]
  repeat rw [if_neg (by omega)]
theorem sgX5_lay_2_TS_rpW2 {σ : Sto} {w0 : Nat → Int64} : (fun k => (sgX5_lay_2_TS σ w0).1 (8000 + 16 * k + 2)) = (fun k => σ.1 (8000 + 16 * k + 2)) := by
  funext k
  unfold sgX5_lay_2_TS
  dsimp only [zI, zL, aI, aL]
  repeat rw [if_neg (by omega)]
theorem sgX5_lay_2_TS_rgG0 {σ : Sto} {w0 : Nat → Int64} : (fun k => (sgX5_lay_2_TS σ w0).2.2.1 (4000 + 16 * k)) = (fun k => σ.2.2.1 (4000 + 16 * k)) := by
  funext k
  unfold sgX5_lay_2_TS
  dsimp only [zI, zL, aI, aL]
  repeat rw [if_neg (by omega)]
abbrev rmX5_lay_2_TS : Room := { frames := 46, cells := 0, slots := 0, locals := 1270 }
set_option maxHeartbeats 4000000 in
theorem wkX5_lay_2_TS {x1 : Int32} {w_aL1152 : Nat → Int64} (E : EN p s m args meth c0 RX5 cX5_lay_2 4 (Option.none : Option Jvm.ClassFile.FieldType)) (hX : KX D G ad A s s.heap) (hD : XD dsc nr nw nu) (hA : ∀ q, PA dsc ad s.heap.size q → A q) (hf : xo_X5_lay_2_TS (σ.1 1082) (σ.1 2008) (σ.1 2013) (σ.1 2027) (σ.1 2032) (σ.2.1 1081) (σ.2.2.1 1170) (σ.2.2.1 2037) (σ.2.2.1 2043) (σ.2.2.2.1 1141) (σ.2.2.2.1 1152) nr nw (fun k => σ.1 (6000 + 16 * k + 2)) (fun k => σ.1 (6000 + 16 * k + 5)) (fun k => σ.1 (6000 + 16 * k + 6)) (fun k => σ.1 (8000 + 16 * k + 0)) (fun k => σ.1 (8000 + 16 * k + 1)) (fun k => σ.1 (8000 + 16 * k + 2)) (fun k => σ.2.2.1 (4000 + 16 * k)) x1 = some w_aL1152) (hQ : Q = MQ below (va_G1 none (fun t => PIC D clsA G dsc ad (sgX5_lay_2_TS σ w_aL1152) t.heap) A) args s 0 0 A) (hP : PIC D clsA G dsc ad σ H) (hS : va_S A s.heap H locs) (hl : lv_has ls 4 [(0, .ref (ad 1080)), (1, .int x1)]) : W p l e rmX5_lay_2_TS s m args below meth c0 H locs 0 0 Q (F0 m 0 ls []) := by
  obtain ⟨⟨hx, hb, hml, hown, hts⟩, hr, hlk⟩ := id E
  have hP := hP.to (sgX5_lay_2_TS_self σ).symm
  unfold xo_X5_lay_2_TS at hf
  refine lv_iconst hx hb dX5_lay_2_0 ic_0 ?_
  refine lv_istore_n (lv' := [(2, .int 0), (0, .ref (ad 1080)), (1, .int x1)]) hx hb dX5_lay_2_1 rfl hl (by decide) rfl (fun ls hl => ?_)
  have LP2 : ∀ (st2 : Int32 × (Nat → Int64)) (ex2 : ((Nat → Int64))), loop (xo_X5_lay_2_TS_L2 (σ.1 2008) (σ.1 2013) (σ.2.1 1081) x1) st2 = some ex2 → ∀ (H : Heap) (locs : List Loc), PIC D clsA G dsc ad (sgX5_lay_2_TS σ (st2.2)) H → va_S A s.heap H locs → ∀ (ls : Array Slot), lv_has ls 4 [(0, .ref (ad 1080)), (1, .int x1), (2, .int (st2.1))] → (∀ (a11 : Nat → Int64), ex2 = a11 → ∀ (H : Heap) (locs : List Loc), PIC D clsA G dsc ad (sgX5_lay_2_TS σ a11) H → va_S A s.heap H locs → ∀ (ls : Array Slot), lv_has ls 4 [(0, .ref (ad 1080)), (1, .int x1)] → W p l e rmX5_lay_2_TS s m args below meth c0 H locs 0 0 Q (F0 m 59 ls [])) → W p l e rmX5_lay_2_TS s m args below meth c0 H locs 0 0 Q (F0 m 2 ls []) := by
    refine loop_P (fun st2 ex2 o2 hf ih2 hx2 => ?_)
    obtain ⟨y1, a2⟩ := st2
    intro H locs (hP : PIC D clsA G dsc ad (sgX5_lay_2_TS σ a2) H) hS ls (hl : lv_has ls 4 [(0, .ref (ad 1080)), (1, .int x1), (2, .int y1)]) KE2_0
    dsimp only [xo_X5_lay_2_TS_L2] at hf
    refine lv_iload_n hx hb dX5_lay_2_2 rfl (lv_at hl 2 rfl) ?_
    refine lv_aload_n hx hb dX5_lay_2_3 rfl (lv_at hl 0 rfl) ?_
    refine gx_X5_3_1080 E hX hD hP dX5_lay_2_4 ?_
    refine gx_X5_27_1000 E hX hD hP dX5_lay_2_7 ?_
    refine gx_X5_63_2000 (v := (σ.1 2008)) E hX hD hP sgX5_lay_2_TS_rzI2008 dX5_lay_2_10 ?_
    refine lv_icmp_ge (tgt := 59) hx hb dX5_lay_2_13 (by decide) (fun c3 => ?_) (fun c3 => ?_)
    · have hf := ifT c3 hf
      exact KE2_0 _ (hx2 _ (Option.some.inj hf).symm).symm H locs hP hS ls (lv_sub hl [0, 1] rfl)
    · have hf := ifF c3 hf
      refine lv_aload_n hx hb dX5_lay_2_16 rfl (lv_at hl 0 rfl) ?_
      refine gx_X5_15_1080 E hX hD hP dX5_lay_2_17 ?_
      refine lv_bipush hx hb dX5_lay_2_20 bp_10 ?_
      refine lv_iload_n hx hb dX5_lay_2_22 rfl (lv_at hl 1 rfl) ?_
      refine lv_imul hx hb dX5_lay_2_23 ?_
      refine lv_iload_n hx hb dX5_lay_2_24 rfl (lv_at hl 2 rfl) ?_
      refine lv_iadd hx hb dX5_lay_2_25 ?_
      refine lv_iload_n hx hb dX5_lay_2_26 rfl (lv_at hl 2 rfl) ?_
      refine lv_aload_n hx hb dX5_lay_2_27 rfl (lv_at hl 0 rfl) ?_
      refine gx_X5_3_1080 E hX hD hP dX5_lay_2_28 ?_
      refine gx_X5_27_1000 E hX hD hP dX5_lay_2_31 ?_
      refine gx_X5_67_2000 (v := (σ.1 2013)) E hX hD hP sgX5_lay_2_TS_rzI2013 dX5_lay_2_34 ?_
      have J52 : ∀ (k4 : Int64) (k5 : Int32), xo_X5_lay_2_TS_J52 y1 a2 k4 k5 = some o2 → ∀ (H : Heap) (locs : List Loc), PIC D clsA G dsc ad (sgX5_lay_2_TS σ a2) H → va_S A s.heap H locs → ∀ (ls : Array Slot), lv_has ls 4 [(0, .ref (ad 1080)), (1, .int x1), (2, .int y1)] → W p l e rmX5_lay_2_TS s m args below meth c0 H locs 0 0 Q (F0 m 52 ls [.long k4, .int k5, .ref (ad 1152)]) := by
        intro k4 k5 hf H locs hP hS ls hl
        unfold xo_X5_lay_2_TS_J52 at hf
        obtain ⟨a6, ha6, hf⟩ := bdP hf
        refine p_last hx hb hX.1 hP hS (hA _ (PA_c (hD.1 _ _ dX_1152))) (hD.1 _ _ dX_1152) sgX5_lay_2_TS_raL1152 ha6 sgX5_lay_2_TS_aL1152 dX5_lay_2_52 (fun H locs hP hS => ?_)
        obtain ⟨v7, hv7, hf⟩ := bdP hf
        refine lv_iinc (v := v7) (lv' := [(2, .int v7), (0, .ref (ad 1080)), (1, .int x1)]) hx hb dX5_lay_2_53 hl (k := 2) rfl (Option.some.inj hv7) (by decide) rfl (fun ls hl => ?_)
        refine lv_goto (tgt := 2) hx hb dX5_lay_2_56 (by decide) ?_
        exact ih2 _ (Option.some.inj hf).symm H locs hP hS ls (lv_sub hl [1, 2, 0] rfl) KE2_0
      refine lv_icmp_ne (tgt := 48) hx hb dX5_lay_2_37 (by decide) (fun c8 => ?_) (fun c8 => ?_)
      · have hf := ifF c8 hf
        refine lv_aload_n hx hb dX5_lay_2_48 rfl (lv_at hl 0 rfl) ?_
        refine gx_X5_19_1080 (v := (σ.2.1 1081)) E hX hD hP sgX5_lay_2_TS_rzL1081 dX5_lay_2_49 ?_
        exact J52 (σ.2.1 1081) ((10 * x1) + y1) hf H locs hP hS ls (lv_sub hl [0, 1, 2] rfl)
      · have hf := ifT c8 hf
        refine lv_aload_n hx hb dX5_lay_2_40 rfl (lv_at hl 0 rfl) ?_
        refine lv_iload_n hx hb dX5_lay_2_41 rfl (lv_at hl 1 rfl) ?_
        obtain ⟨v9, u10, hf⟩ := bdP hf
        refine cx_X5_70_X6_end_TS E hX hD hP hS hA (kxX6_end_TS l D G hD u10) ⟨rfl, rfl⟩ ⟨Nat.le_of_ble_eq_true rfl, Nat.le_of_ble_eq_true rfl⟩ ⟨Nat.zero_le _, Nat.zero_le _⟩ hl.1 (Nat.le_of_ble_eq_true rfl) dX5_lay_2_42 (fun H locs hP hS => ?_)
        refine lv_goto (tgt := 52) hx hb dX5_lay_2_45 (by decide) ?_
        exact J52 v9 ((10 * x1) + y1) hf H locs hP hS ls (lv_sub hl [0, 1, 2] rfl)
  obtain ⟨ex2, hlp2, hf⟩ := bdP hf
  refine LP2 (0, (σ.2.2.2.1 1152)) ex2 hlp2 H locs hP hS ls (lv_sub hl [1, 2, 0] rfl) ?_
  intro a11 hex2 H locs hP hS ls hl
  subst ex2
  refine lv_iconst hx hb dX5_lay_2_59 ic_1 ?_
  refine lv_istore_n (lv' := [(2, .int 1), (0, .ref (ad 1080)), (1, .int x1)]) hx hb dX5_lay_2_60 rfl hl (by decide) rfl (fun ls hl => ?_)
  have LP61 : ∀ (st61 : Int32 × (Nat → Int64)) (ex61 : ((Nat → Int64))), loop (xo_X5_lay_2_TS_L61 (σ.1 1082) (σ.1 2008) (σ.1 2013) (σ.1 2027) (σ.1 2032) (σ.2.1 1081) (σ.2.2.1 1170) (σ.2.2.1 2037) (σ.2.2.1 2043) (σ.2.2.2.1 1141) nr nw (fun k => σ.1 (6000 + 16 * k + 2)) (fun k => σ.1 (6000 + 16 * k + 5)) (fun k => σ.1 (6000 + 16 * k + 6)) (fun k => σ.1 (8000 + 16 * k + 0)) (fun k => σ.1 (8000 + 16 * k + 1)) (fun k => σ.1 (8000 + 16 * k + 2)) (fun k => σ.2.2.1 (4000 + 16 * k)) x1) st61 = some ex61 → ∀ (H : Heap) (locs : List Loc), PIC D clsA G dsc ad (sgX5_lay_2_TS σ (st61.2)) H → va_S A s.heap H locs → ∀ (ls : Array Slot), lv_has ls 4 [(0, .ref (ad 1080)), (1, .int x1), (2, .int (st61.1))] → (∀ (a32 : Nat → Int64), ex61 = a32 → ∀ (H : Heap) (locs : List Loc), PIC D clsA G dsc ad (sgX5_lay_2_TS σ a32) H → va_S A s.heap H locs → ∀ (ls : Array Slot), lv_has ls 4 [] → W p l e rmX5_lay_2_TS s m args below meth c0 H locs 0 0 Q (F0 m 130 ls [])) → W p l e rmX5_lay_2_TS s m args below meth c0 H locs 0 0 Q (F0 m 61 ls []) := by
    refine loop_P (fun st61 ex61 o61 hf ih61 hx61 => ?_)
    obtain ⟨y12, a13⟩ := st61
    intro H locs (hP : PIC D clsA G dsc ad (sgX5_lay_2_TS σ a13) H) hS ls (hl : lv_has ls 4 [(0, .ref (ad 1080)), (1, .int x1), (2, .int y12)]) KE61_0
    dsimp only [xo_X5_lay_2_TS_L61] at hf
    refine lv_iload_n hx hb dX5_lay_2_61 rfl (lv_at hl 2 rfl) ?_
    refine lv_if_eq (tgt := 130) hx hb dX5_lay_2_62 (by decide) (fun c14 => ?_) (fun c14 => ?_)
    · have hf := ifT c14 hf
      exact KE61_0 _ (hx61 _ (Option.some.inj hf).symm).symm H locs hP hS ls (lv_sub hl [] rfl)
    · have hf := ifF c14 hf
      refine lv_iconst hx hb dX5_lay_2_65 ic_0 ?_
      refine lv_istore_n (lv' := [(2, .int 0), (0, .ref (ad 1080)), (1, .int x1)]) hx hb dX5_lay_2_66 rfl hl (by decide) rfl (fun ls hl => ?_)
      refine lv_iconst hx hb dX5_lay_2_67 ic_0 ?_
      refine lv_istore_n (lv' := [(3, .int 0), (2, .int 0), (0, .ref (ad 1080)), (1, .int x1)]) hx hb dX5_lay_2_68 rfl hl (by decide) rfl (fun ls hl => ?_)
      have LP69 : ∀ (st69 : Int32 × Int32 × (Nat → Int64)) (ex69 : (Int32 × (Nat → Int64))), loop (xo_X5_lay_2_TS_L69 (σ.1 1082) (σ.1 2008) (σ.1 2013) (σ.1 2027) (σ.1 2032) (σ.2.1 1081) (σ.2.2.1 1170) (σ.2.2.1 2037) (σ.2.2.1 2043) (σ.2.2.2.1 1141) nr nw (fun k => σ.1 (6000 + 16 * k + 2)) (fun k => σ.1 (6000 + 16 * k + 5)) (fun k => σ.1 (6000 + 16 * k + 6)) (fun k => σ.1 (8000 + 16 * k + 0)) (fun k => σ.1 (8000 + 16 * k + 1)) (fun k => σ.1 (8000 + 16 * k + 2)) (fun k => σ.2.2.1 (4000 + 16 * k)) x1) st69 = some ex69 → ∀ (H : Heap) (locs : List Loc), PIC D clsA G dsc ad (sgX5_lay_2_TS σ (st69.2.2)) H → va_S A s.heap H locs → ∀ (ls : Array Slot), lv_has ls 4 [(0, .ref (ad 1080)), (1, .int x1), (2, .int (st69.1)), (3, .int (st69.2.1))] → (∀ (y30 : Int32) (a31 : Nat → Int64), ex69 = (y30, a31) → ∀ (H : Heap) (locs : List Loc), PIC D clsA G dsc ad (sgX5_lay_2_TS σ a31) H → va_S A s.heap H locs → ∀ (ls : Array Slot), lv_has ls 4 [(0, .ref (ad 1080)), (1, .int x1), (2, .int y30)] → W p l e rmX5_lay_2_TS s m args below meth c0 H locs 0 0 Q (F0 m 127 ls [])) → W p l e rmX5_lay_2_TS s m args below meth c0 H locs 0 0 Q (F0 m 69 ls []) := by
        refine loop_P (fun st69 ex69 o69 hf ih69 hx69 => ?_)
        obtain ⟨y15, y16, a17⟩ := st69
        intro H locs (hP : PIC D clsA G dsc ad (sgX5_lay_2_TS σ a17) H) hS ls (hl : lv_has ls 4 [(0, .ref (ad 1080)), (1, .int x1), (2, .int y15), (3, .int y16)]) KE69_0
        dsimp only [xo_X5_lay_2_TS_L69] at hf
        refine lv_iload_n hx hb dX5_lay_2_69 rfl (lv_at hl 3 rfl) ?_
        refine lv_aload_n hx hb dX5_lay_2_70 rfl (lv_at hl 0 rfl) ?_
        refine gx_X5_3_1080 E hX hD hP dX5_lay_2_71 ?_
        refine gx_X5_27_1000 E hX hD hP dX5_lay_2_74 ?_
        refine gx_X5_63_2000 (v := (σ.1 2008)) E hX hD hP sgX5_lay_2_TS_rzI2008 dX5_lay_2_77 ?_
        refine lv_icmp_ge (tgt := 127) hx hb dX5_lay_2_80 (by decide) (fun c18 => ?_) (fun c18 => ?_)
        · have hf := ifT c18 hf
          exact KE69_0 _ _ (hx69 _ (Option.some.inj hf).symm).symm H locs hP hS ls (lv_sub hl [0, 1, 2] rfl)
        · have hf := ifF c18 hf
          refine lv_iload_n hx hb dX5_lay_2_83 rfl (lv_at hl 3 rfl) ?_
          refine lv_aload_n hx hb dX5_lay_2_84 rfl (lv_at hl 0 rfl) ?_
          refine gx_X5_3_1080 E hX hD hP dX5_lay_2_85 ?_
          refine gx_X5_27_1000 E hX hD hP dX5_lay_2_88 ?_
          refine gx_X5_67_2000 (v := (σ.1 2013)) E hX hD hP sgX5_lay_2_TS_rzI2013 dX5_lay_2_91 ?_
          have J121 : ∀ (y19 : Int32) (a20 : Nat → Int64), xo_X5_lay_2_TS_J121 y16 y19 a20 = some o69 → ∀ (H : Heap) (locs : List Loc), PIC D clsA G dsc ad (sgX5_lay_2_TS σ a20) H → va_S A s.heap H locs → ∀ (ls : Array Slot), lv_has ls 4 [(0, .ref (ad 1080)), (1, .int x1), (2, .int y19), (3, .int y16)] → W p l e rmX5_lay_2_TS s m args below meth c0 H locs 0 0 Q (F0 m 121 ls []) := by
            intro y19 a20 hf H locs hP hS ls hl
            unfold xo_X5_lay_2_TS_J121 at hf
            obtain ⟨v21, hv21, hf⟩ := bdP hf
            refine lv_iinc (v := v21) (lv' := [(3, .int v21), (0, .ref (ad 1080)), (1, .int x1), (2, .int y19)]) hx hb dX5_lay_2_121 hl (k := 3) rfl (Option.some.inj hv21) (by decide) rfl (fun ls hl => ?_)
            refine lv_goto (tgt := 69) hx hb dX5_lay_2_124 (by decide) ?_
            exact ih69 _ (Option.some.inj hf).symm H locs hP hS ls (lv_sub hl [1, 2, 3, 0] rfl) KE69_0
          refine lv_icmp_eq (tgt := 121) hx hb dX5_lay_2_94 (by decide) (fun c22 => ?_) (fun c22 => ?_)
          · have hf := ifT c22 hf
            exact J121 y15 a17 hf H locs hP hS ls (lv_sub hl [0, 1, 2, 3] rfl)
          · have hf := ifF c22 hf
            refine lv_aload_n hx hb dX5_lay_2_97 rfl (lv_at hl 0 rfl) ?_
            refine gx_X5_3_1080 E hX hD hP dX5_lay_2_98 ?_
            refine gx_X5_27_1000 E hX hD hP dX5_lay_2_101 ?_
            refine lv_iload_n hx hb dX5_lay_2_104 rfl (lv_at hl 3 rfl) ?_
            refine lv_iload_n hx hb dX5_lay_2_105 rfl (lv_at hl 1 rfl) ?_
            obtain ⟨v23, u24, hf⟩ := bdP hf
            refine cx_X5_74_X3_unseen E hX hD hP hS hA (kxX3_unseen l D G hD sgX5_lay_2_TS_rzI2027 sgX5_lay_2_TS_raI1170 sgX5_lay_2_TS_raI2043 u24) ⟨rfl, rfl⟩ ⟨Nat.le_of_ble_eq_true rfl, Nat.le_of_ble_eq_true rfl⟩ ⟨Nat.zero_le _, Nat.zero_le _⟩ hl.1 (Nat.le_of_ble_eq_true rfl) dX5_lay_2_106 (fun H locs hP hS => ?_)
            refine lv_if_ne (tgt := 121) hx hb dX5_lay_2_109 (by decide) (fun c25 => ?_) (fun c25 => ?_)
            · have hf := ifF c25 hf
              exact J121 y15 a17 hf H locs hP hS ls (lv_sub hl [0, 1, 2, 3] rfl)
            · have hf := ifT c25 hf
              refine lv_iload_n hx hb dX5_lay_2_112 rfl (lv_at hl 2 rfl) ?_
              refine lv_aload_n hx hb dX5_lay_2_113 rfl (lv_at hl 0 rfl) ?_
              refine lv_iload_n hx hb dX5_lay_2_114 rfl (lv_at hl 3 rfl) ?_
              refine lv_iload_n hx hb dX5_lay_2_115 rfl (lv_at hl 1 rfl) ?_
              obtain ⟨⟨v26, a27⟩, u28, hf⟩ := bdP hf
              dsimp only at hf
              refine cx_X5_77_X5_betters_TS E hX hD hP hS hA (kxX5_betters_TS l D G hD sgX5_lay_2_TS_rzI1082 sgX5_lay_2_TS_rzI2008 sgX5_lay_2_TS_rzI2013 sgX5_lay_2_TS_rzI2027 sgX5_lay_2_TS_rzI2032 sgX5_lay_2_TS_rzL1081 sgX5_lay_2_TS_raI1170 sgX5_lay_2_TS_raI2037 sgX5_lay_2_TS_raI2043 sgX5_lay_2_TS_raL1141 sgX5_lay_2_TS_raL1152 rfl rfl sgX5_lay_2_TS_rpR2 sgX5_lay_2_TS_rpR5 sgX5_lay_2_TS_rpR6 sgX5_lay_2_TS_rpW0 sgX5_lay_2_TS_rpW1 sgX5_lay_2_TS_rpW2 sgX5_lay_2_TS_rgG0 u28) ⟨rfl, rfl⟩ ⟨Nat.le_of_ble_eq_true rfl, Nat.le_of_ble_eq_true rfl⟩ ⟨Nat.zero_le _, Nat.zero_le _⟩ hl.1 (Nat.le_of_ble_eq_true rfl) dX5_lay_2_116 (fun H locs hP hS => ?_)
              rw [sgX5_lay_2_TS_aL1152] at hP
              refine lv_ior hx hb dX5_lay_2_119 ?_
              obtain ⟨v29, hv29, hf⟩ := bdP hf
              refine nm_i (Option.some.inj hv29) ?_
              refine lv_istore_n (lv' := [(2, .int v29), (0, .ref (ad 1080)), (1, .int x1), (3, .int y16)]) hx hb dX5_lay_2_120 rfl hl (by decide) rfl (fun ls hl => ?_)
              exact J121 v29 a27 hf H locs hP hS ls (lv_sub hl [1, 2, 0, 3] rfl)
      obtain ⟨ex69, hlp69, hf⟩ := bdP hf
      refine LP69 (0, 0, a13) ex69 hlp69 H locs hP hS ls (lv_sub hl [2, 3, 1, 0] rfl) ?_
      intro y30 a31 hex69 H locs hP hS ls hl
      subst ex69
      dsimp only at hf
      refine lv_goto (tgt := 61) hx hb dX5_lay_2_127 (by decide) ?_
      exact ih61 _ (Option.some.inj hf).symm H locs hP hS ls (lv_sub hl [0, 1, 2] rfl) KE61_0
  obtain ⟨ex61, hlp61, hf⟩ := bdP hf
  refine LP61 (1, a11) ex61 hlp61 H locs hP hS ls (lv_sub hl [1, 2, 0] rfl) ?_
  intro a32 hex61 H locs hP hS ls hl
  subst ex61
  cases hf
  rw [hQ]; exact g_vret hx hb hr hlk hP hS dX5_lay_2_130
theorem kxX5_lay_2_TS (l : Launch) (D : va_G) (G : Nat → ClassId) {dsc : Nat → Option Dsc} {ad : Nat → Nat} {σ : Sto} {nr nw nu : Nat} (hD : XD dsc nr nw nu) {x1 : Int32} {w_aL1152 : Nat → Int64} {z_TS_by : Int32} (e_zI1082 : σ.1 1082 = z_TS_by) {z_L_places : Int32} (e_zI2008 : σ.1 2008 = z_L_places) {z_L_to : Int32} (e_zI2013 : σ.1 2013 = z_L_to) {z_Ld_size : Int32} (e_zI2027 : σ.1 2027 = z_Ld_size) {z_Lw_size : Int32} (e_zI2032 : σ.1 2032 = z_Lw_size) {z_TS_none : Int64} (e_zL1081 : σ.2.1 1081 = z_TS_none) {a_UNIT : Nat → Int32} (e_aI1170 : σ.2.2.1 1170 = a_UNIT) {a_Lw_data : Nat → Int32} (e_aI2037 : σ.2.2.1 2037 = a_Lw_data) {a_L_seen : Nat → Int32} (e_aI2043 : σ.2.2.1 2043 = a_L_seen) {a_W_likely : Nat → Int64} (e_aL1141 : σ.2.2.2.1 1141 = a_W_likely) {a_TS_value : Nat → Int64} (e_aL1152 : σ.2.2.2.1 1152 = a_TS_value) {n_r : Nat} (e_nN0 : nr = n_r) {n_w : Nat} (e_nN1 : nw = n_w) {p_road_hours : Nat → Int32} (e_pR2 : (fun k => σ.1 (6000 + 16 * k + 2)) = p_road_hours) {p_road_wait : Nat → Int32} (e_pR5 : (fun k => σ.1 (6000 + 16 * k + 5)) = p_road_wait) {p_road_number : Nat → Int32} (e_pR6 : (fun k => σ.1 (6000 + 16 * k + 6)) = p_road_number) {p_word_place : Nat → Int32} (e_pW0 : (fun k => σ.1 (8000 + 16 * k + 0)) = p_word_place) {p_word_road : Nat → Int32} (e_pW1 : (fun k => σ.1 (8000 + 16 * k + 1)) = p_word_road) {p_word_hours : Nat → Int32} (e_pW2 : (fun k => σ.1 (8000 + 16 * k + 2)) = p_word_hours) {g_grid : Nat → Nat → Int32} (e_gG0 : (fun k => σ.2.2.1 (4000 + 16 * k)) = g_grid) (hf : xo_X5_lay_2_TS z_TS_by z_L_places z_L_to z_Ld_size z_Lw_size z_TS_none a_UNIT a_Lw_data a_L_seen a_W_likely a_TS_value n_r n_w p_road_hours p_road_wait p_road_number p_word_place p_word_road p_word_hours g_grid x1 = some w_aL1152) : CtG l D G dsc ad yX5_lay_2 (ws_ yX5_lay_2 cX5_lay_2 4 (Option.none : Option Jvm.ClassFile.FieldType)) rmX5_lay_2_TS [.ref (ad 1080), .int x1] σ none (aL σ 1152 w_aL1152) := by
  subst e_zI1082
  subst e_zI2008
  subst e_zI2013
  subst e_zI2027
  subst e_zI2032
  subst e_zL1081
  subst e_aI1170
  subst e_aI2037
  subst e_aI2043
  subst e_aL1141
  subst e_aL1152
  subst e_nN0
  subst e_nN1
  subst e_pR2
  subst e_pR5
  subst e_pR6
  subst e_pW0
  subst e_pW1
  subst e_pW2
  subst e_gG0
  exact p_ctG (by decide +kernel) (Nat.le_of_ble_eq_true rfl) (fun p e s m below meth c0 ls A E hP hX hA hS hl => wkX5_lay_2_TS E hX hD hA hf rfl hP hS hl)
theorem ux_X5_23_1080 {σ1 : Sto} (E : EN p s m args meth c0 RX5 cc nL ret) (hX : KX D G ad A s s.heap) (hD : XD dsc nr nw nu) (hP : PIC D clsA G dsc ad σ H) (hS : va_S A s.heap H locs) (hA : A (ad 1080)) (hσ : zI σ 1082 0 = σ1) (hdg : decode cc pc = .ok (.putfield 23, 3)) (kk : ∀ (H1 : Heap) (locs1 : List Loc), PIC D clsA G dsc ad σ1 H1 → va_S A s.heap H1 locs1 → W p l e R s m args below meth c0 H1 locs1 cells slots Q (F0 m (pc + 3) ls rest)) : W p l e R s m args below meth c0 H locs cells slots Q (F0 m pc ls (.ref (ad 1050) :: .ref (ad 1080) :: rest)) :=
  p_putr2 E.1.1 E.1.2.1 E.1.2.2.2.2 in_X7 tyX7 tyX7_ok E.1.2.2.2.1 hX.1 hP hS hA (hD.1 _ _ dX_1080) rfl 2 (by decide) (by decide +kernel) (E.1.2.2.2.2 _ q363) (fun _ h => h) rfl rfl rfl rfl rfl hσ hdg kk
theorem cx_X5_51_X5_notKnown_TS {rm : Room} {σ1 : Sto} {x1 : Int32} {r : Int32} (E : EN p s m args meth c0 RX5 cc nL ret) (hX : KX D G ad A s s.heap) (hD : XD dsc nr nw nu) (hP : PIC D clsA G dsc ad σ H) (hS : va_S A s.heap H locs) (hA : ∀ q, PA dsc ad s.heap.size q → A q) (hM : CtG l D G dsc ad yX5_notKnown (ws_ yX5_notKnown cX5_notKnown 4 (Option.some Jvm.ClassFile.FieldType.int)) rm [.ref (ad 1080), .int x1] σ (some (.int r)) σ1) (hz : rm.cells = 0 ∧ rm.slots = 0) (hR : rm.frames + 1 ≤ R.frames ∧ 8 + (4 + 11) + rm.locals ≤ R.locals) (hcs : cells ≤ R.cells ∧ slots ≤ R.slots) (hsz : ls.size = nL) (hW : (rest.map fun v => v.category).sum ≤ 8) (hdg : decode cc pc = .ok (.invokevirtual 51, 3)) (kk : ∀ (H1 : Heap) (locs1 : List Loc), PIC D clsA G dsc ad σ1 H1 → va_S A s.heap H1 locs1 → W p l e R s m args below meth c0 H1 locs1 cells slots Q (F0 m (pc + 3) ls (.int r :: rest))) : W p l e R s m args below meth c0 H locs cells slots Q (F0 m pc ls (.int x1 :: .ref (ad 1080) :: rest)) :=
  p_gU (As := [.int x1]) (rest := rest) E.1 hX hP hS hA hM (cw_any (owner := "ShutPasses$Table") (x := ⟨"ShutPasses$Table", "notKnown", "(I)I"⟩) (y := yX5_notKnown) (C := "ShutPasses$AtWorst") (index := 51) (own := RX5) 1 E.1.2.2.2.2 (lw_meth q1059) rfl hz.1 hz.2 (E.1.2.2.2.2 _ q1053) (E.1.2.2.2.2 _ q1055) (va_Decl.of (E.1.2.2.2.2 _ q1054) (E.1.2.2.2.2 _ q1059)) (E.1.2.2.2.2 _ q1056) (E.1.2.2.2.2 _ q1054) (E.1.2.2.2.2 _ q131) (by decide +kernel) hR) (hD.1 _ _ dX_1080) rfl rfl rfl hsz rfl hW hdg hcs kk
theorem cx_X5_55_X5_lay_2_TS {rm : Room} {σ1 : Sto} {x1 : Int32} (E : EN p s m args meth c0 RX5 cc nL ret) (hX : KX D G ad A s s.heap) (hD : XD dsc nr nw nu) (hP : PIC D clsA G dsc ad σ H) (hS : va_S A s.heap H locs) (hA : ∀ q, PA dsc ad s.heap.size q → A q) (hM : CtG l D G dsc ad yX5_lay_2 (ws_ yX5_lay_2 cX5_lay_2 4 (Option.none : Option Jvm.ClassFile.FieldType)) rm [.ref (ad 1080), .int x1] σ none σ1) (hz : rm.cells = 0 ∧ rm.slots = 0) (hR : rm.frames + 1 ≤ R.frames ∧ 8 + (4 + 11) + rm.locals ≤ R.locals) (hcs : cells ≤ R.cells ∧ slots ≤ R.slots) (hsz : ls.size = nL) (hW : (rest.map fun v => v.category).sum ≤ 8) (hdg : decode cc pc = .ok (.invokevirtual 55, 3)) (kk : ∀ (H1 : Heap) (locs1 : List Loc), PIC D clsA G dsc ad σ1 H1 → va_S A s.heap H1 locs1 → W p l e R s m args below meth c0 H1 locs1 cells slots Q (F0 m (pc + 3) ls (rest))) : W p l e R s m args below meth c0 H locs cells slots Q (F0 m pc ls (.int x1 :: .ref (ad 1080) :: rest)) :=
  p_gU (As := [.int x1]) (rest := rest) E.1 hX hP hS hA hM (cw_any (owner := "ShutPasses$Table") (x := ⟨"ShutPasses$Table", "lay", "(I)V"⟩) (y := yX5_lay_2) (C := "ShutPasses$AtWorst") (index := 55) (own := RX5) 1 E.1.2.2.2.2 (lw_meth q1064) rfl hz.1 hz.2 (E.1.2.2.2.2 _ q1061) (E.1.2.2.2.2 _ q2278) (va_Decl.of (E.1.2.2.2.2 _ q1063) (E.1.2.2.2.2 _ q1064)) (va_Nw.use rfl (hX.2.1.2 ("ShutPasses$AtWorst", yX5_lay_2) (by decide +kernel))) (E.1.2.2.2.2 _ q1063) (E.1.2.2.2.2 _ q131) (by decide +kernel) hR) (hD.1 _ _ dX_1080) rfl rfl rfl hsz rfl hW hdg hcs kk
/-! X5_lay_TS_W (LShutPasses$Weights;)V -/
def sgX5_lay_TS_W (σ : Sto) (w0 : Int32) (w1 : Nat → Int64) : Sto := aL (zI σ 1082 w0) 1152 w1
theorem sgX5_lay_TS_W_self (σ : Sto) : sgX5_lay_TS_W σ (σ.1 1082) (σ.2.2.2.1 1152) = σ := by
  unfold sgX5_lay_TS_W
  simp only [zI_self, zL_self, aI_self, aL_self]
theorem sgX5_lay_TS_W_zI1082 {σ : Sto} {w0 : Int32} {w1 : Nat → Int64} {g : Int32} : zI (sgX5_lay_TS_W σ w0 w1) 1082 g = sgX5_lay_TS_W σ g w1 := (cm_zI_aL _ _ _ _ _).trans (congrArg (fun z => aL z 1152 w1) (zI_zI _ 1082 _ _))
theorem sgX5_lay_TS_W_aL1152 {σ : Sto} {w0 : Int32} {w1 : Nat → Int64} {g : Nat → Int64} : aL (sgX5_lay_TS_W σ w0 w1) 1152 g = sgX5_lay_TS_W σ w0 g := aL_aL _ 1152 _ _
theorem sgX5_lay_TS_W_rzI1082 {σ : Sto} {w0 : Int32} {w1 : Nat → Int64} : (sgX5_lay_TS_W σ w0 w1).1 1082 = w0 := rfl
theorem sgX5_lay_TS_W_rzI2008 {σ : Sto} {w0 : Int32} {w1 : Nat → Int64} : (sgX5_lay_TS_W σ w0 w1).1 2008 = σ.1 2008 := rfl
theorem sgX5_lay_TS_W_rzI2013 {σ : Sto} {w0 : Int32} {w1 : Nat → Int64} : (sgX5_lay_TS_W σ w0 w1).1 2013 = σ.1 2013 := rfl
theorem sgX5_lay_TS_W_rzI2027 {σ : Sto} {w0 : Int32} {w1 : Nat → Int64} : (sgX5_lay_TS_W σ w0 w1).1 2027 = σ.1 2027 := rfl
theorem sgX5_lay_TS_W_rzI2032 {σ : Sto} {w0 : Int32} {w1 : Nat → Int64} : (sgX5_lay_TS_W σ w0 w1).1 2032 = σ.1 2032 := rfl
theorem sgX5_lay_TS_W_rzL1081 {σ : Sto} {w0 : Int32} {w1 : Nat → Int64} : (sgX5_lay_TS_W σ w0 w1).2.1 1081 = σ.2.1 1081 := rfl
theorem sgX5_lay_TS_W_raI1170 {σ : Sto} {w0 : Int32} {w1 : Nat → Int64} : (sgX5_lay_TS_W σ w0 w1).2.2.1 1170 = σ.2.2.1 1170 := rfl
theorem sgX5_lay_TS_W_raI2037 {σ : Sto} {w0 : Int32} {w1 : Nat → Int64} : (sgX5_lay_TS_W σ w0 w1).2.2.1 2037 = σ.2.2.1 2037 := rfl
theorem sgX5_lay_TS_W_raI2043 {σ : Sto} {w0 : Int32} {w1 : Nat → Int64} : (sgX5_lay_TS_W σ w0 w1).2.2.1 2043 = σ.2.2.1 2043 := rfl
theorem sgX5_lay_TS_W_raL1141 {σ : Sto} {w0 : Int32} {w1 : Nat → Int64} : (sgX5_lay_TS_W σ w0 w1).2.2.2.1 1141 = σ.2.2.2.1 1141 := rfl
theorem sgX5_lay_TS_W_raL1152 {σ : Sto} {w0 : Int32} {w1 : Nat → Int64} : (sgX5_lay_TS_W σ w0 w1).2.2.2.1 1152 = w1 := rfl
theorem sgX5_lay_TS_W_rpR2 {σ : Sto} {w0 : Int32} {w1 : Nat → Int64} : (fun k => (sgX5_lay_TS_W σ w0 w1).1 (6000 + 16 * k + 2)) = (fun k => σ.1 (6000 + 16 * k + 2)) := by
  funext k
  unfold sgX5_lay_TS_W
  dsimp only [zI, zL, aI, aL]
  repeat rw [if_neg (by omega)]
theorem sgX5_lay_TS_W_rpR5 {σ : Sto} {w0 : Int32} {w1 : Nat → Int64} : (fun k => (sgX5_lay_TS_W σ w0 w1).1 (6000 + 16 * k + 5)) = (fun k => σ.1 (6000 + 16 * k + 5)) := by
  funext k
  unfold sgX5_lay_TS_W
  dsimp only [zI, zL, aI, aL]
  repeat rw [if_neg (by omega)]
theorem sgX5_lay_TS_W_rpR6 {σ : Sto} {w0 : Int32} {w1 : Nat → Int64} : (fun k => (sgX5_lay_TS_W σ w0 w1).1 (6000 + 16 * k + 6)) = (fun k => σ.1 (6000 + 16 * k + 6)) := by
  funext k
  unfold sgX5_lay_TS_W
  dsimp only [zI, zL, aI, aL]
  repeat rw [if_neg (by omega)]
theorem sgX5_lay_TS_W_rpW0 {σ : Sto} {w0 : Int32} {w1 : Nat → Int64} : (fun k => (sgX5_lay_TS_W σ w0 w1).1 (8000 + 16 * k + 0)) = (fun k => σ.1 (8000 + 16 * k + 0)) := by
  funext k
  unfold sgX5_lay_TS_W
  dsimp only [zI, zL, aI, aL]
  repeat rw [if_neg (by omega)]
theorem sgX5_lay_TS_W_rpW1 {σ : Sto} {w0 : Int32} {w1 : Nat → Int64} : (fun k => (sgX5_lay_TS_W σ w0 w1).1 (8000 + 16 * k + 1)) = (fun k => σ.1 (8000 + 16 * k + 1)) := by
  funext k
  unfold sgX5_lay_TS_W
  dsimp only [zI, zL, aI, aL]
  repeat rw [if_neg (by omega)]
theorem sgX5_lay_TS_W_rpW2 {σ : Sto} {w0 : Int32} {w1 : Nat → Int64} : (fun k => (sgX5_lay_TS_W σ w0 w1).1 (8000 + 16 * k + 2)) = (fun k => σ.1 (8000 + 16 * k + 2)) := by
  funext k
  unfold sgX5_lay_TS_W
  dsimp only [zI, zL, aI, aL]
  repeat rw [if_neg (by omega)]
theorem sgX5_lay_TS_W_rgG0 {σ : Sto} {w0 : Int32} {w1 : Nat → Int64} : (fun k => (sgX5_lay_TS_W σ w0 w1).2.2.1 (4000 + 16 * k)) = (fun k => σ.2.2.1 (4000 + 16 * k)) := by
  funext k
  unfold sgX5_lay_TS_W
  dsimp only [zI, zL, aI, aL]
  repeat rw [if_neg (by omega)]
abbrev rmX5_lay_TS_W : Room := { frames := 47, cells := 0, slots := 0, locals := 1293 }
set_option maxHeartbeats 4000000 in
theorem wkX5_lay_TS_W {w_zI1082 : Int32} {w_aL1152 : Nat → Int64} (E : EN p s m args meth c0 RX5 cX5_lay 4 (Option.none : Option Jvm.ClassFile.FieldType)) (hX : KX D G ad A s s.heap) (hD : XD dsc nr nw nu) (hA : ∀ q, PA dsc ad s.heap.size q → A q) (hf : xo_X5_lay_TS_W (σ.1 1082) (σ.1 2008) (σ.1 2013) (σ.1 2027) (σ.1 2032) (σ.2.1 1081) (σ.2.2.1 1170) (σ.2.2.1 2037) (σ.2.2.1 2043) (σ.2.2.2.1 1141) (σ.2.2.2.1 1152) nr nw (fun k => σ.1 (6000 + 16 * k + 2)) (fun k => σ.1 (6000 + 16 * k + 5)) (fun k => σ.1 (6000 + 16 * k + 6)) (fun k => σ.1 (8000 + 16 * k + 0)) (fun k => σ.1 (8000 + 16 * k + 1)) (fun k => σ.1 (8000 + 16 * k + 2)) (fun k => σ.2.2.1 (4000 + 16 * k)) = some (w_zI1082, w_aL1152)) (hQ : Q = MQ below (va_G1 none (fun t => PIC D clsA G dsc ad (sgX5_lay_TS_W σ w_zI1082 w_aL1152) t.heap) A) args s 0 0 A) (hP : PIC D clsA G dsc ad σ H) (hS : va_S A s.heap H locs) (hl : lv_has ls 4 [(0, .ref (ad 1080)), (1, .ref (ad 1050))]) : W p l e rmX5_lay_TS_W s m args below meth c0 H locs 0 0 Q (F0 m 0 ls []) := by
  obtain ⟨⟨hx, hb, hml, hown, hts⟩, hr, hlk⟩ := id E
  have hP := hP.to (sgX5_lay_TS_W_self σ).symm
  unfold xo_X5_lay_TS_W at hf
  refine lv_aload_n hx hb dX5_lay_0 rfl (lv_at hl 0 rfl) ?_
  refine lv_aload_n hx hb dX5_lay_1 rfl (lv_at hl 1 rfl) ?_
  refine ux_X5_23_1080 E hX hD hP hS (hA _ (PA_c (hD.1 _ _ dX_1080))) sgX5_lay_TS_W_zI1082 dX5_lay_2 (fun H locs hP hS => ?_)
  refine lv_iconst hx hb dX5_lay_5 ic_0 ?_
  refine lv_istore_n (lv' := [(2, .int 0), (0, .ref (ad 1080)), (1, .ref (ad 1050))]) hx hb dX5_lay_6 rfl hl (by decide) rfl (fun ls hl => ?_)
  have LP7 : ∀ (st7 : Int32 × (Nat → Int64)) (ex7 : ((Nat → Int64))), loop (xo_X5_lay_TS_W_L7 (σ.1 2008) (σ.1 2013) (σ.1 2027) (σ.1 2032) (σ.2.1 1081) (σ.2.2.1 1170) (σ.2.2.1 2037) (σ.2.2.1 2043) (σ.2.2.2.1 1141) nr nw (fun k => σ.1 (6000 + 16 * k + 2)) (fun k => σ.1 (6000 + 16 * k + 5)) (fun k => σ.1 (6000 + 16 * k + 6)) (fun k => σ.1 (8000 + 16 * k + 0)) (fun k => σ.1 (8000 + 16 * k + 1)) (fun k => σ.1 (8000 + 16 * k + 2)) (fun k => σ.2.2.1 (4000 + 16 * k))) st7 = some ex7 → ∀ (H : Heap) (locs : List Loc), PIC D clsA G dsc ad (sgX5_lay_TS_W σ 0 (st7.2)) H → va_S A s.heap H locs → ∀ (ls : Array Slot), lv_has ls 4 [(0, .ref (ad 1080)), (2, .int (st7.1))] → (∀ (a23 : Nat → Int64), ex7 = a23 → ∀ (H : Heap) (locs : List Loc), PIC D clsA G dsc ad (sgX5_lay_TS_W σ 0 a23) H → va_S A s.heap H locs → ∀ (ls : Array Slot), lv_has ls 4 [] → W p l e rmX5_lay_TS_W s m args below meth c0 H locs 0 0 Q (F0 m 80 ls [])) → W p l e rmX5_lay_TS_W s m args below meth c0 H locs 0 0 Q (F0 m 7 ls []) := by
    refine loop_P (fun st7 ex7 o7 hf ih7 hx7 => ?_)
    obtain ⟨y1, a2⟩ := st7
    intro H locs (hP : PIC D clsA G dsc ad (sgX5_lay_TS_W σ 0 a2) H) hS ls (hl : lv_has ls 4 [(0, .ref (ad 1080)), (2, .int y1)]) KE7_0
    dsimp only [xo_X5_lay_TS_W_L7] at hf
    refine lv_iload_n hx hb dX5_lay_7 rfl (lv_at hl 1 rfl) ?_
    refine lv_aload_n hx hb dX5_lay_8 rfl (lv_at hl 0 rfl) ?_
    refine gx_X5_3_1080 E hX hD hP dX5_lay_9 ?_
    refine gx_X5_27_1000 E hX hD hP dX5_lay_12 ?_
    refine gx_X5_31_2000 E hX hD hP dX5_lay_15 ?_
    obtain ⟨v3, u4, hf⟩ := bdP hf
    refine cx_X5_37_J2_size_Ld E hX hD hP hS hA (kxJ2_size_Ld l D G hD sgX5_lay_TS_W_rzI2027 u4) ⟨rfl, rfl⟩ ⟨Nat.le_of_ble_eq_true rfl, Nat.le_of_ble_eq_true rfl⟩ ⟨Nat.zero_le _, Nat.zero_le _⟩ hl.1 (Nat.le_of_ble_eq_true rfl) dX5_lay_18 (fun H locs hP hS => ?_)
    refine lv_icmp_gt (tgt := 80) hx hb dX5_lay_21 (by decide) (fun c5 => ?_) (fun c5 => ?_)
    · have hf := ifT c5 hf
      exact KE7_0 _ (hx7 _ (Option.some.inj hf).symm).symm H locs hP hS ls (lv_sub hl [] rfl)
    · have hf := ifF c5 hf
      refine lv_iconst hx hb dX5_lay_24 ic_0 ?_
      refine lv_istore_n (lv' := [(3, .int 0), (0, .ref (ad 1080)), (2, .int y1)]) hx hb dX5_lay_25 rfl hl (by decide) rfl (fun ls hl => ?_)
      have LP26 : ∀ (st26 : Int32 × (Nat → Int64)) (ex26 : ((Nat → Int64))), loop (xo_X5_lay_TS_W_L26 (σ.1 2008) (σ.1 2013) (σ.1 2027) (σ.1 2032) (σ.2.1 1081) (σ.2.2.1 1170) (σ.2.2.1 2037) (σ.2.2.1 2043) (σ.2.2.2.1 1141) nr nw (fun k => σ.1 (6000 + 16 * k + 2)) (fun k => σ.1 (6000 + 16 * k + 5)) (fun k => σ.1 (6000 + 16 * k + 6)) (fun k => σ.1 (8000 + 16 * k + 0)) (fun k => σ.1 (8000 + 16 * k + 1)) (fun k => σ.1 (8000 + 16 * k + 2)) (fun k => σ.2.2.1 (4000 + 16 * k)) y1) st26 = some ex26 → ∀ (H : Heap) (locs : List Loc), PIC D clsA G dsc ad (sgX5_lay_TS_W σ 0 (st26.2)) H → va_S A s.heap H locs → ∀ (ls : Array Slot), lv_has ls 4 [(0, .ref (ad 1080)), (2, .int y1), (3, .int (st26.1))] → (∀ (a21 : Nat → Int64), ex26 = a21 → ∀ (H : Heap) (locs : List Loc), PIC D clsA G dsc ad (sgX5_lay_TS_W σ 0 a21) H → va_S A s.heap H locs → ∀ (ls : Array Slot), lv_has ls 4 [(0, .ref (ad 1080)), (2, .int y1)] → W p l e rmX5_lay_TS_W s m args below meth c0 H locs 0 0 Q (F0 m 74 ls [])) → W p l e rmX5_lay_TS_W s m args below meth c0 H locs 0 0 Q (F0 m 26 ls []) := by
        refine loop_P (fun st26 ex26 o26 hf ih26 hx26 => ?_)
        obtain ⟨y6, a7⟩ := st26
        intro H locs (hP : PIC D clsA G dsc ad (sgX5_lay_TS_W σ 0 a7) H) hS ls (hl : lv_has ls 4 [(0, .ref (ad 1080)), (2, .int y1), (3, .int y6)]) KE26_0
        dsimp only [xo_X5_lay_TS_W_L26] at hf
        refine lv_iload_n hx hb dX5_lay_26 rfl (lv_at hl 2 rfl) ?_
        refine lv_aload_n hx hb dX5_lay_27 rfl (lv_at hl 0 rfl) ?_
        refine gx_X5_3_1080 E hX hD hP dX5_lay_28 ?_
        refine gx_X5_27_1000 E hX hD hP dX5_lay_31 ?_
        obtain ⟨v8, u9, hf⟩ := bdP hf
        refine cx_X5_43_X3_knowns E hX hD hP hS hA (kxX3_knowns l D G hD sgX5_lay_TS_W_rzI2027 sgX5_lay_TS_W_raI1170 u9) ⟨rfl, rfl⟩ ⟨Nat.le_of_ble_eq_true rfl, Nat.le_of_ble_eq_true rfl⟩ ⟨Nat.zero_le _, Nat.zero_le _⟩ hl.1 (Nat.le_of_ble_eq_true rfl) dX5_lay_34 (fun H locs hP hS => ?_)
        refine lv_icmp_ge (tgt := 74) hx hb dX5_lay_37 (by decide) (fun c10 => ?_) (fun c10 => ?_)
        · have hf := ifT c10 hf
          exact KE26_0 _ (hx26 _ (Option.some.inj hf).symm).symm H locs hP hS ls (lv_sub hl [0, 1] rfl)
        · have hf := ifF c10 hf
          refine lv_aload_n hx hb dX5_lay_40 rfl (lv_at hl 0 rfl) ?_
          refine gx_X5_23_1080 (v := 0) E hX hD hP sgX5_lay_TS_W_rzI1082 dX5_lay_41 ?_
          obtain ⟨v11, hv11, hf⟩ := bdP hf
          refine p_nn0 (ckz_some hv11) ?_
          refine gx_X5_46_1050 E hX hD hP dX5_lay_44 ?_
          refine lv_iload_n hx hb dX5_lay_47 rfl (lv_at hl 2 rfl) ?_
          obtain ⟨v12, hv12, hf⟩ := bdP hf
          refine p_lald hx hb hX.1 hP (hD.1 _ _ dX_1141) sgX5_lay_TS_W_raL1141 hv12 dX5_lay_48 ?_
          refine lv_lconst hx hb dX5_lay_49 lc_0 ?_
          refine W.lcmp hx hb dX5_lay_50 ?_
          have J68 : ∀ (a13 : Nat → Int64), xo_X5_lay_TS_W_J68 y6 a13 = some o26 → ∀ (H : Heap) (locs : List Loc), PIC D clsA G dsc ad (sgX5_lay_TS_W σ 0 a13) H → va_S A s.heap H locs → ∀ (ls : Array Slot), lv_has ls 4 [(0, .ref (ad 1080)), (2, .int y1), (3, .int y6)] → W p l e rmX5_lay_TS_W s m args below meth c0 H locs 0 0 Q (F0 m 68 ls []) := by
            intro a13 hf H locs hP hS ls hl
            unfold xo_X5_lay_TS_W_J68 at hf
            obtain ⟨v14, hv14, hf⟩ := bdP hf
            refine lv_iinc (v := v14) (lv' := [(3, .int v14), (0, .ref (ad 1080)), (2, .int y1)]) hx hb dX5_lay_68 hl (k := 2) rfl (Option.some.inj hv14) (by decide) rfl (fun ls hl => ?_)
            refine lv_goto (tgt := 26) hx hb dX5_lay_71 (by decide) ?_
            exact ih26 _ (Option.some.inj hf).symm H locs hP hS ls (lv_sub hl [1, 2, 0] rfl) KE26_0
          refine lv_if_le (tgt := 68) hx hb dX5_lay_51 (by decide) (fun c15 => ?_) (fun c15 => ?_)
          · have hf := ifT ((lgc_le _ _).mp c15) hf
            exact J68 a7 hf H locs hP hS ls (lv_sub hl [0, 1, 2] rfl)
          · have hf := ifF (mt (lgc_le _ _).mpr c15) hf
            refine lv_aload_n hx hb dX5_lay_54 rfl (lv_at hl 0 rfl) ?_
            refine lv_iload_n hx hb dX5_lay_55 rfl (lv_at hl 2 rfl) ?_
            obtain ⟨v16, u17, hf⟩ := bdP hf
            refine cx_X5_51_X5_notKnown_TS E hX hD hP hS hA (kxX5_notKnown_TS l D G hD sgX5_lay_TS_W_rzI2027 sgX5_lay_TS_W_raI1170 u17) ⟨rfl, rfl⟩ ⟨Nat.le_of_ble_eq_true rfl, Nat.le_of_ble_eq_true rfl⟩ ⟨Nat.zero_le _, Nat.zero_le _⟩ hl.1 (Nat.le_of_ble_eq_true rfl) dX5_lay_56 (fun H locs hP hS => ?_)
            refine lv_iload_n hx hb dX5_lay_59 rfl (lv_at hl 1 rfl) ?_
            refine lv_icmp_ne (tgt := 68) hx hb dX5_lay_60 (by decide) (fun c18 => ?_) (fun c18 => ?_)
            · have hf := ifF c18 hf
              exact J68 a7 hf H locs hP hS ls (lv_sub hl [0, 1, 2] rfl)
            · have hf := ifT c18 hf
              refine lv_aload_n hx hb dX5_lay_63 rfl (lv_at hl 0 rfl) ?_
              refine lv_iload_n hx hb dX5_lay_64 rfl (lv_at hl 2 rfl) ?_
              obtain ⟨a19, u20, hf⟩ := bdP hf
              refine cx_X5_55_X5_lay_2_TS E hX hD hP hS hA (kxX5_lay_2_TS l D G hD sgX5_lay_TS_W_rzI1082 sgX5_lay_TS_W_rzI2008 sgX5_lay_TS_W_rzI2013 sgX5_lay_TS_W_rzI2027 sgX5_lay_TS_W_rzI2032 sgX5_lay_TS_W_rzL1081 sgX5_lay_TS_W_raI1170 sgX5_lay_TS_W_raI2037 sgX5_lay_TS_W_raI2043 sgX5_lay_TS_W_raL1141 sgX5_lay_TS_W_raL1152 rfl rfl sgX5_lay_TS_W_rpR2 sgX5_lay_TS_W_rpR5 sgX5_lay_TS_W_rpR6 sgX5_lay_TS_W_rpW0 sgX5_lay_TS_W_rpW1 sgX5_lay_TS_W_rpW2 sgX5_lay_TS_W_rgG0 u20) ⟨rfl, rfl⟩ ⟨Nat.le_of_ble_eq_true rfl, Nat.le_of_ble_eq_true rfl⟩ ⟨Nat.zero_le _, Nat.zero_le _⟩ hl.1 (Nat.le_of_ble_eq_true rfl) dX5_lay_65 (fun H locs hP hS => ?_)
              rw [sgX5_lay_TS_W_aL1152] at hP
              exact J68 a19 hf H locs hP hS ls (lv_sub hl [0, 1, 2] rfl)
      obtain ⟨ex26, hlp26, hf⟩ := bdP hf
      refine LP26 (0, a2) ex26 hlp26 H locs hP hS ls (lv_sub hl [1, 2, 0] rfl) ?_
      intro a21 hex26 H locs hP hS ls hl
      subst ex26
      obtain ⟨v22, hv22, hf⟩ := bdP hf
      refine lv_iinc (v := v22) (lv' := [(2, .int v22), (0, .ref (ad 1080))]) hx hb dX5_lay_74 hl (k := 1) rfl (Option.some.inj hv22) (by decide) rfl (fun ls hl => ?_)
      refine lv_goto (tgt := 7) hx hb dX5_lay_77 (by decide) ?_
      exact ih7 _ (Option.some.inj hf).symm H locs hP hS ls (lv_sub hl [1, 0] rfl) KE7_0
  obtain ⟨ex7, hlp7, hf⟩ := bdP hf
  refine LP7 (0, (σ.2.2.2.1 1152)) ex7 hlp7 H locs hP hS ls (lv_sub hl [1, 0] rfl) ?_
  intro a23 hex7 H locs hP hS ls hl
  subst ex7
  cases hf
  rw [hQ]; exact g_vret hx hb hr hlk hP hS dX5_lay_80
theorem kxX5_lay_TS_W (l : Launch) (D : va_G) (G : Nat → ClassId) {dsc : Nat → Option Dsc} {ad : Nat → Nat} {σ : Sto} {nr nw nu : Nat} (hD : XD dsc nr nw nu) {w_zI1082 : Int32} {w_aL1152 : Nat → Int64} {z_TS_by : Int32} (e_zI1082 : σ.1 1082 = z_TS_by) {z_L_places : Int32} (e_zI2008 : σ.1 2008 = z_L_places) {z_L_to : Int32} (e_zI2013 : σ.1 2013 = z_L_to) {z_Ld_size : Int32} (e_zI2027 : σ.1 2027 = z_Ld_size) {z_Lw_size : Int32} (e_zI2032 : σ.1 2032 = z_Lw_size) {z_TS_none : Int64} (e_zL1081 : σ.2.1 1081 = z_TS_none) {a_UNIT : Nat → Int32} (e_aI1170 : σ.2.2.1 1170 = a_UNIT) {a_Lw_data : Nat → Int32} (e_aI2037 : σ.2.2.1 2037 = a_Lw_data) {a_L_seen : Nat → Int32} (e_aI2043 : σ.2.2.1 2043 = a_L_seen) {a_W_likely : Nat → Int64} (e_aL1141 : σ.2.2.2.1 1141 = a_W_likely) {a_TS_value : Nat → Int64} (e_aL1152 : σ.2.2.2.1 1152 = a_TS_value) {n_r : Nat} (e_nN0 : nr = n_r) {n_w : Nat} (e_nN1 : nw = n_w) {p_road_hours : Nat → Int32} (e_pR2 : (fun k => σ.1 (6000 + 16 * k + 2)) = p_road_hours) {p_road_wait : Nat → Int32} (e_pR5 : (fun k => σ.1 (6000 + 16 * k + 5)) = p_road_wait) {p_road_number : Nat → Int32} (e_pR6 : (fun k => σ.1 (6000 + 16 * k + 6)) = p_road_number) {p_word_place : Nat → Int32} (e_pW0 : (fun k => σ.1 (8000 + 16 * k + 0)) = p_word_place) {p_word_road : Nat → Int32} (e_pW1 : (fun k => σ.1 (8000 + 16 * k + 1)) = p_word_road) {p_word_hours : Nat → Int32} (e_pW2 : (fun k => σ.1 (8000 + 16 * k + 2)) = p_word_hours) {g_grid : Nat → Nat → Int32} (e_gG0 : (fun k => σ.2.2.1 (4000 + 16 * k)) = g_grid) (hf : xo_X5_lay_TS_W z_TS_by z_L_places z_L_to z_Ld_size z_Lw_size z_TS_none a_UNIT a_Lw_data a_L_seen a_W_likely a_TS_value n_r n_w p_road_hours p_road_wait p_road_number p_word_place p_word_road p_word_hours g_grid = some (w_zI1082, w_aL1152)) : CtG l D G dsc ad yX5_lay (ws_ yX5_lay cX5_lay 4 (Option.none : Option Jvm.ClassFile.FieldType)) rmX5_lay_TS_W [.ref (ad 1080), .ref (ad 1050)] σ none (aL (zI σ 1082 w_zI1082) 1152 w_aL1152) := by
  subst e_zI1082
  subst e_zI2008
  subst e_zI2013
  subst e_zI2027
  subst e_zI2032
  subst e_zL1081
  subst e_aI1170
  subst e_aI2037
  subst e_aI2043
  subst e_aL1141
  subst e_aL1152
  subst e_nN0
  subst e_nN1
  subst e_pR2
  subst e_pR5
  subst e_pR6
  subst e_pW0
  subst e_pW1
  subst e_pW2
  subst e_gG0
  exact p_ctG (by decide +kernel) (Nat.le_of_ble_eq_true rfl) (fun p e s m below meth c0 ls A E hP hX hA hS hl => wkX5_lay_TS_W E hX hD hA hf rfl hP hS hl)
theorem gx_X1_256_2000 {v : Int32} (E : EN p s m args meth c0 RX1 cc nL ret) (hX : KX D G ad A s s.heap) (hD : XD dsc nr nw nu) (hP : PIC D clsA G dsc ad σ H) (hv : σ.1 2013 = v) (hdg : decode cc pc = .ok (.getfield 256, 3)) (kk : W p l e R s m args below meth c0 H locs cells slots Q (F0 m (pc + 3) ls (.int v :: rest))) : W p l e R s m args below meth c0 H locs cells slots Q (F0 m pc ls (.ref (ad 2000) :: rest)) :=
  p_getN E.1.1 E.1.2.1 E.1.2.2.2.2 in_X3 E.1.2.2.2.1 hX.1 hP (hD.1 _ _ dX_2000) rfl 13 (by decide) (hX.2.1.1 _ q286 rfl) (fun _ h => h) rfl (congrArg Value.int hv) hdg kk
theorem gx_X1_87_1000 (E : EN p s m args meth c0 RX1 cc nL ret) (hX : KX D G ad A s s.heap) (hD : XD dsc nr nw nu) (hP : PIC D clsA G dsc ad σ H) (hdg : decode cc pc = .ok (.getfield 87, 3)) (kk : W p l e R s m args below meth c0 H locs cells slots Q (F0 m (pc + 3) ls (.ref (ad 1448) :: rest))) : W p l e R s m args below meth c0 H locs cells slots Q (F0 m pc ls (.ref (ad 1000) :: rest)) :=
  p_get E.1.1 E.1.2.1 E.1.2.2.2.2 in_X1 E.1.2.2.2.1 hX.1 hP (hD.1 _ _ dX_1000) rfl 15 (by decide) (E.1.2.2.2.2 _ q526) (fun _ h => h) rfl rfl hdg kk
theorem cx_X1_259_X10_next_p3 {rm : Room} {σ1 : Sto} {x1 : Int32} {x2 : Int32} {r : Int32} (E : EN p s m args meth c0 RX1 cc nL ret) (hX : KX D G ad A s s.heap) (hD : XD dsc nr nw nu) (hP : PIC D clsA G dsc ad σ H) (hS : va_S A s.heap H locs) (hA : ∀ q, PA dsc ad s.heap.size q → A q) (hM : CtG l D G dsc ad yX10_next (ws_ yX10_next cX10_next 7 (Option.some Jvm.ClassFile.FieldType.int)) rm [.ref (ad 1448), .int x1, .int x2] σ (some (.int r)) σ1) (hz : rm.cells = 0 ∧ rm.slots = 0) (hR : rm.frames + 1 ≤ R.frames ∧ 8 + (7 + 11) + rm.locals ≤ R.locals) (hcs : cells ≤ R.cells ∧ slots ≤ R.slots) (hsz : ls.size = nL) (hW : (rest.map fun v => v.category).sum ≤ 8) (hdg : decode cc pc = .ok (.invokevirtual 259, 3)) (kk : ∀ (H1 : Heap) (locs1 : List Loc), PIC D clsA G dsc ad σ1 H1 → va_S A s.heap H1 locs1 → W p l e R s m args below meth c0 H1 locs1 cells slots Q (F0 m (pc + 3) ls (.int r :: rest))) : W p l e R s m args below meth c0 H locs cells slots Q (F0 m pc ls (.int x2 :: .int x1 :: .ref (ad 1448) :: rest)) :=
  p_gU (As := [.int x1, .int x2]) (rest := rest) E.1 hX hP hS hA hM (cw_any (owner := "ShutPasses$AsIf") (x := ⟨"ShutPasses$Hope", "next", "(II)I"⟩) (y := yX10_next) (C := "ShutPasses$Hope") (index := 259) (own := RX1) 2 E.1.2.2.2.2 (lw_meth q1204) rfl hz.1 hz.2 (E.1.2.2.2.2 _ q1199) (E.1.2.2.2.2 _ q1200) (va_Decl.of (E.1.2.2.2.2 _ q1203) (E.1.2.2.2.2 _ q1204)) (E.1.2.2.2.2 _ q1202) (E.1.2.2.2.2 _ q1203) (E.1.2.2.2.2 _ q136) (by decide +kernel) hR) (hD.1 _ _ dX_1448) rfl rfl rfl hsz rfl hW hdg hcs kk
theorem cx_X1_263_X3_cost {rm : Room} {σ1 : Sto} {x1 : Int32} {x2 : Int32} {x3 : Int32} {r : Int32} (E : EN p s m args meth c0 RX1 cc nL ret) (hX : KX D G ad A s s.heap) (hD : XD dsc nr nw nu) (hP : PIC D clsA G dsc ad σ H) (hS : va_S A s.heap H locs) (hA : ∀ q, PA dsc ad s.heap.size q → A q) (hM : CtG l D G dsc ad yX3_cost (ws_ yX3_cost cX3_cost 5 (Option.some Jvm.ClassFile.FieldType.int)) rm [.ref (ad 2000), .int x1, .int x2, .int x3] σ (some (.int r)) σ1) (hz : rm.cells = 0 ∧ rm.slots = 0) (hR : rm.frames + 1 ≤ R.frames ∧ 8 + (5 + 11) + rm.locals ≤ R.locals) (hcs : cells ≤ R.cells ∧ slots ≤ R.slots) (hsz : ls.size = nL) (hW : (rest.map fun v => v.category).sum ≤ 8) (hdg : decode cc pc = .ok (.invokevirtual 263, 3)) (kk : ∀ (H1 : Heap) (locs1 : List Loc), PIC D clsA G dsc ad σ1 H1 → va_S A s.heap H1 locs1 → W p l e R s m args below meth c0 H1 locs1 cells slots Q (F0 m (pc + 3) ls (.int r :: rest))) : W p l e R s m args below meth c0 H locs cells slots Q (F0 m pc ls (.int x3 :: .int x2 :: .int x1 :: .ref (ad 2000) :: rest)) :=
  p_gV (As := [.int x1, .int x2, .int x3]) (rest := rest) E.1 hX hP hS hA hM (cwV 3 E.1.2.2.2.2 (lw_V q1226 q1105 q1106 q126 q1107) rfl hz.1 hz.2 (by decide +kernel) hR) (hD.1 _ _ dX_2000) rfl rfl rfl hsz rfl hW hdg hcs kk
/-! X1_hoursOf (I)I -/
def sgX1_hoursOf (σ : Sto) (w0 : Nat → Int32) : Sto := aI σ 1162 w0
theorem sgX1_hoursOf_self (σ : Sto) : sgX1_hoursOf σ (σ.2.2.1 1162) = σ := by
  unfold sgX1_hoursOf
  simp only [zI_self, zL_self, aI_self, aL_self]
theorem sgX1_hoursOf_aI1162 {σ : Sto} {w0 : Nat → Int32} {g : Nat → Int32} : aI (sgX1_hoursOf σ w0) 1162 g = sgX1_hoursOf σ g := aI_aI _ 1162 _ _
theorem sgX1_hoursOf_rzI2008 {σ : Sto} {w0 : Nat → Int32} : (sgX1_hoursOf σ w0).1 2008 = σ.1 2008 := rfl
theorem sgX1_hoursOf_rzI2012 {σ : Sto} {w0 : Nat → Int32} : (sgX1_hoursOf σ w0).1 2012 = σ.1 2012 := rfl
theorem sgX1_hoursOf_rzI2013 {σ : Sto} {w0 : Nat → Int32} : (sgX1_hoursOf σ w0).1 2013 = σ.1 2013 := rfl
theorem sgX1_hoursOf_rzI2027 {σ : Sto} {w0 : Nat → Int32} : (sgX1_hoursOf σ w0).1 2027 = σ.1 2027 := rfl
theorem sgX1_hoursOf_raI1162 {σ : Sto} {w0 : Nat → Int32} : (sgX1_hoursOf σ w0).2.2.1 1162 = w0 := rfl
theorem sgX1_hoursOf_raI1170 {σ : Sto} {w0 : Nat → Int32} : (sgX1_hoursOf σ w0).2.2.1 1170 = σ.2.2.1 1170 := rfl
theorem sgX1_hoursOf_rpR2 {σ : Sto} {w0 : Nat → Int32} : (fun k => (sgX1_hoursOf σ w0).1 (6000 + 16 * k + 2)) = (fun k => σ.1 (6000 + 16 * k + 2)) := by
  funext k
  unfold sgX1_hoursOf
  dsimp only [zI, zL, aI, aL]
  repeat rw [if_neg (by omega)]
theorem sgX1_hoursOf_rpR5 {σ : Sto} {w0 : Nat → Int32} : (fun k => (sgX1_hoursOf σ w0).1 (6000 + 16 * k + 5)) = (fun k => σ.1 (6000 + 16 * k + 5)) := by
  funext k
  unfold sgX1_hoursOf
  dsimp only [zI, zL, aI, aL]
  repeat rw [if_neg (by omega)]
theorem sgX1_hoursOf_rpR6 {σ : Sto} {w0 : Nat → Int32} : (fun k => (sgX1_hoursOf σ w0).1 (6000 + 16 * k + 6)) = (fun k => σ.1 (6000 + 16 * k + 6)) := by
  funext k
  unfold sgX1_hoursOf
  dsimp only [zI, zL, aI, aL]
  repeat rw [if_neg (by omega)]
theorem sgX1_hoursOf_rgG0 {σ : Sto} {w0 : Nat → Int32} : (fun k => (sgX1_hoursOf σ w0).2.2.1 (4000 + 16 * k)) = (fun k => σ.2.2.1 (4000 + 16 * k)) := by
  funext k
  unfold sgX1_hoursOf
  dsimp only [zI, zL, aI, aL]
  repeat rw [if_neg (by omega)]
abbrev rmX1_hoursOf : Room := { frames := 4, cells := 0, slots := 0, locals := 96 }
set_option maxHeartbeats 4000000 in
theorem wkX1_hoursOf {x1 : Int32} {r_ : Int32} {w_aI1162 : Nat → Int32} (E : EN p s m args meth c0 RX1 cX1_hoursOf 6 (Option.some Jvm.ClassFile.FieldType.int)) (hX : KX D G ad A s s.heap) (hD : XD dsc nr nw nu) (hA : ∀ q, PA dsc ad s.heap.size q → A q) (hf : xo_X1_hoursOf (σ.1 2008) (σ.1 2012) (σ.1 2013) (σ.1 2027) (σ.2.2.1 1162) (σ.2.2.1 1170) nr (fun k => σ.1 (6000 + 16 * k + 2)) (fun k => σ.1 (6000 + 16 * k + 5)) (fun k => σ.1 (6000 + 16 * k + 6)) (fun k => σ.2.2.1 (4000 + 16 * k)) x1 = some (r_, w_aI1162)) (hQ : Q = MQ below (va_G1 (some (.int r_)) (fun t => PIC D clsA G dsc ad (sgX1_hoursOf σ w_aI1162) t.heap) A) args s 0 0 A) (hP : PIC D clsA G dsc ad σ H) (hS : va_S A s.heap H locs) (hl : lv_has ls 6 [(0, .ref (ad 1000)), (1, .int x1)]) : W p l e rmX1_hoursOf s m args below meth c0 H locs 0 0 Q (F0 m 0 ls []) := by
  obtain ⟨⟨hx, hb, hml, hown, hts⟩, hr, hlk⟩ := id E
  have hP := hP.to (sgX1_hoursOf_self σ).symm
  unfold xo_X1_hoursOf at hf
  refine lv_iconst hx hb dX1_hoursOf_0 ic_0 ?_
  refine lv_istore_n (lv' := [(2, .int 0), (0, .ref (ad 1000)), (1, .int x1)]) hx hb dX1_hoursOf_1 rfl hl (by decide) rfl (fun ls hl => ?_)
  refine lv_iconst hx hb dX1_hoursOf_2 ic_0 ?_
  refine lv_istore_n (lv' := [(3, .int 0), (2, .int 0), (0, .ref (ad 1000)), (1, .int x1)]) hx hb dX1_hoursOf_3 rfl hl (by decide) rfl (fun ls hl => ?_)
  have LP4 : ∀ (st4 : Int32 × Int32) (ex4 : (Int32)), loop (xo_X1_hoursOf_L4 (σ.1 2027) (σ.2.2.1 1170) x1) st4 = some ex4 → ∀ (H : Heap) (locs : List Loc), PIC D clsA G dsc ad (sgX1_hoursOf σ (σ.2.2.1 1162)) H → va_S A s.heap H locs → ∀ (ls : Array Slot), lv_has ls 6 [(0, .ref (ad 1000)), (1, .int x1), (2, .int (st4.1)), (3, .int (st4.2))] → (∀ (y9 : Int32), ex4 = y9 → ∀ (H : Heap) (locs : List Loc), PIC D clsA G dsc ad (sgX1_hoursOf σ (σ.2.2.1 1162)) H → va_S A s.heap H locs → ∀ (ls : Array Slot), lv_has ls 6 [(0, .ref (ad 1000)), (2, .int y9)] → W p l e rmX1_hoursOf s m args below meth c0 H locs 0 0 Q (F0 m 37 ls [])) → W p l e rmX1_hoursOf s m args below meth c0 H locs 0 0 Q (F0 m 4 ls []) := by
    refine loop_P (fun st4 ex4 o4 hf ih4 hx4 => ?_)
    obtain ⟨y1, y2⟩ := st4
    intro H locs (hP : PIC D clsA G dsc ad (sgX1_hoursOf σ (σ.2.2.1 1162)) H) hS ls (hl : lv_has ls 6 [(0, .ref (ad 1000)), (1, .int x1), (2, .int y1), (3, .int y2)]) KE4_0
    dsimp only [xo_X1_hoursOf_L4] at hf
    refine lv_iload_n hx hb dX1_hoursOf_4 rfl (lv_at hl 3 rfl) ?_
    refine lv_aload_n hx hb dX1_hoursOf_5 rfl (lv_at hl 0 rfl) ?_
    refine gx_X1_33_1000 E hX hD hP dX1_hoursOf_6 ?_
    refine gx_X1_246_2000 E hX hD hP dX1_hoursOf_9 ?_
    obtain ⟨v3, u4, hf⟩ := bdP hf
    refine cx_X1_190_J2_size_Ld E hX hD hP hS hA (kxJ2_size_Ld l D G hD sgX1_hoursOf_rzI2027 u4) ⟨rfl, rfl⟩ ⟨Nat.le_of_ble_eq_true rfl, Nat.le_of_ble_eq_true rfl⟩ ⟨Nat.zero_le _, Nat.zero_le _⟩ hl.1 (Nat.le_of_ble_eq_true rfl) dX1_hoursOf_12 (fun H locs hP hS => ?_)
    refine lv_icmp_ge (tgt := 37) hx hb dX1_hoursOf_15 (by decide) (fun c5 => ?_) (fun c5 => ?_)
    · have hf := ifT c5 hf
      exact KE4_0 _ (hx4 _ (Option.some.inj hf).symm).symm H locs hP hS ls (lv_sub hl [0, 2] rfl)
    · have hf := ifF c5 hf
      refine lv_iload_n hx hb dX1_hoursOf_18 rfl (lv_at hl 2 rfl) ?_
      refine lv_iload_n hx hb dX1_hoursOf_19 rfl (lv_at hl 3 rfl) ?_
      refine lv_iconst hx hb dX1_hoursOf_20 ic_1 ?_
      refine lv_iload_n hx hb dX1_hoursOf_21 rfl (lv_at hl 1 rfl) ?_
      refine lv_iload_n hx hb dX1_hoursOf_22 rfl (lv_at hl 3 rfl) ?_
      refine lv_ishr hx hb dX1_hoursOf_23 ?_
      refine lv_iconst hx hb dX1_hoursOf_24 ic_1 ?_
      refine lv_iand hx hb dX1_hoursOf_25 ?_
      refine lv_iadd hx hb dX1_hoursOf_26 ?_
      obtain ⟨v6, u7, hf⟩ := bdP hf
      refine cx_X1_249_X1_with E hX hD hP hS hA (kxX1_with l D G hD sgX1_hoursOf_raI1170 u7) ⟨rfl, rfl⟩ ⟨Nat.le_of_ble_eq_true rfl, Nat.le_of_ble_eq_true rfl⟩ ⟨Nat.zero_le _, Nat.zero_le _⟩ hl.1 (Nat.le_of_ble_eq_true rfl) dX1_hoursOf_27 (fun H locs hP hS => ?_)
      refine lv_istore_n (lv' := [(2, .int v6), (0, .ref (ad 1000)), (1, .int x1), (3, .int y2)]) hx hb dX1_hoursOf_30 rfl hl (by decide) rfl (fun ls hl => ?_)
      obtain ⟨v8, hv8, hf⟩ := bdP hf
      refine lv_iinc (v := v8) (lv' := [(3, .int v8), (2, .int v6), (0, .ref (ad 1000)), (1, .int x1)]) hx hb dX1_hoursOf_31 hl (k := 3) rfl (Option.some.inj hv8) (by decide) rfl (fun ls hl => ?_)
      refine lv_goto (tgt := 4) hx hb dX1_hoursOf_34 (by decide) ?_
      exact ih4 _ (Option.some.inj hf).symm H locs hP hS ls (lv_sub hl [2, 3, 1, 0] rfl) KE4_0
  obtain ⟨ex4, hlp4, hf⟩ := bdP hf
  refine LP4 (0, 0) ex4 hlp4 H locs hP hS ls (lv_sub hl [2, 3, 1, 0] rfl) ?_
  intro y9 hex4 H locs hP hS ls hl
  subst ex4
  refine lv_aload_n hx hb dX1_hoursOf_37 rfl (lv_at hl 0 rfl) ?_
  refine gx_X1_33_1000 E hX hD hP dX1_hoursOf_38 ?_
  refine gx_X1_253_2000 (v := (σ.1 2012)) E hX hD hP sgX1_hoursOf_rzI2012 dX1_hoursOf_41 ?_
  refine lv_istore_n (lv' := [(3, .int (σ.1 2012)), (0, .ref (ad 1000)), (2, .int y9)]) hx hb dX1_hoursOf_44 rfl hl (by decide) rfl (fun ls hl => ?_)
  refine lv_iconst hx hb dX1_hoursOf_45 ic_0 ?_
  refine lv_istore (lv' := [(4, .int 0), (3, .int (σ.1 2012)), (0, .ref (ad 1000)), (2, .int y9)]) hx hb dX1_hoursOf_46 hl (by decide) rfl (fun ls hl => ?_)
  have LP48 : ∀ (st48 : Int32 × Int32 × (Nat → Int32)) (ex48 : ((Nat → Int32)) ⊕ (Int32 × (Nat → Int32))), loop (xo_X1_hoursOf_L48 (σ.1 2008) (σ.1 2013) (σ.2.2.1 1170) nr (fun k => σ.1 (6000 + 16 * k + 2)) (fun k => σ.1 (6000 + 16 * k + 5)) (fun k => σ.1 (6000 + 16 * k + 6)) (fun k => σ.2.2.1 (4000 + 16 * k)) y9) st48 = some ex48 → ∀ (H : Heap) (locs : List Loc), PIC D clsA G dsc ad (sgX1_hoursOf σ (st48.2.2)) H → va_S A s.heap H locs → ∀ (ls : Array Slot), lv_has ls 6 [(0, .ref (ad 1000)), (2, .int y9), (3, .int (st48.1)), (4, .int (st48.2.1))] → (∀ (a21 : Nat → Int32), ex48 = (.inl a21) → ∀ (H : Heap) (locs : List Loc), PIC D clsA G dsc ad (sgX1_hoursOf σ a21) H → va_S A s.heap H locs → ∀ (ls : Array Slot), lv_has ls 6 [] → W p l e rmX1_hoursOf s m args below meth c0 H locs 0 0 Q (F0 m 77 ls [])) → (∀ (y22 : Int32) (a23 : Nat → Int32), ex48 = (.inr (y22, a23)) → ∀ (H : Heap) (locs : List Loc), PIC D clsA G dsc ad (sgX1_hoursOf σ a23) H → va_S A s.heap H locs → ∀ (ls : Array Slot), lv_has ls 6 [(4, .int y22)] → W p l e rmX1_hoursOf s m args below meth c0 H locs 0 0 Q (F0 m 102 ls [])) → W p l e rmX1_hoursOf s m args below meth c0 H locs 0 0 Q (F0 m 48 ls []) := by
    refine loop_P (fun st48 ex48 o48 hf ih48 hx48 => ?_)
    obtain ⟨y10, y11, a12⟩ := st48
    intro H locs (hP : PIC D clsA G dsc ad (sgX1_hoursOf σ a12) H) hS ls (hl : lv_has ls 6 [(0, .ref (ad 1000)), (2, .int y9), (3, .int y10), (4, .int y11)]) KE48_0 KE48_1
    dsimp only [xo_X1_hoursOf_L48] at hf
    refine lv_iload_n hx hb dX1_hoursOf_48 rfl (lv_at hl 2 rfl) ?_
    refine lv_aload_n hx hb dX1_hoursOf_49 rfl (lv_at hl 0 rfl) ?_
    refine gx_X1_33_1000 E hX hD hP dX1_hoursOf_50 ?_
    refine gx_X1_256_2000 (v := (σ.1 2013)) E hX hD hP sgX1_hoursOf_rzI2013 dX1_hoursOf_53 ?_
    refine lv_icmp_eq (tgt := 102) hx hb dX1_hoursOf_56 (by decide) (fun c13 => ?_) (fun c13 => ?_)
    · have hf := ifT c13 hf
      exact KE48_1 _ _ (hx48 _ (Option.some.inj hf).symm).symm H locs hP hS ls (lv_sub hl [3] rfl)
    · have hf := ifF c13 hf
      refine lv_aload_n hx hb dX1_hoursOf_59 rfl (lv_at hl 0 rfl) ?_
      refine gx_X1_87_1000 E hX hD hP dX1_hoursOf_60 ?_
      refine lv_iload_n hx hb dX1_hoursOf_63 rfl (lv_at hl 2 rfl) ?_
      refine lv_iload_n hx hb dX1_hoursOf_64 rfl (lv_at hl 1 rfl) ?_
      obtain ⟨⟨v14, a15⟩, u16, hf⟩ := bdP hf
      dsimp only at hf
      refine cx_X1_259_X10_next_p3 E hX hD hP hS hA (kxX10_next_p3 l D G hD sgX1_hoursOf_rzI2008 sgX1_hoursOf_rzI2013 sgX1_hoursOf_raI1162 sgX1_hoursOf_raI1170 rfl sgX1_hoursOf_rpR2 sgX1_hoursOf_rpR5 sgX1_hoursOf_rpR6 sgX1_hoursOf_rgG0 u16) ⟨rfl, rfl⟩ ⟨Nat.le_of_ble_eq_true rfl, Nat.le_of_ble_eq_true rfl⟩ ⟨Nat.zero_le _, Nat.zero_le _⟩ hl.1 (Nat.le_of_ble_eq_true rfl) dX1_hoursOf_65 (fun H locs hP hS => ?_)
      rw [sgX1_hoursOf_aI1162] at hP
      refine lv_istore (lv' := [(5, .int v14), (0, .ref (ad 1000)), (2, .int y9), (3, .int y10), (4, .int y11)]) hx hb dX1_hoursOf_68 hl (by decide) rfl (fun ls hl => ?_)
      refine lv_iload hx hb dX1_hoursOf_70 (lv_at hl 0 rfl) ?_
      refine lv_bipush hx hb dX1_hoursOf_72 bp_m2 ?_
      refine lv_icmp_ne (tgt := 80) hx hb dX1_hoursOf_74 (by decide) (fun c17 => ?_) (fun c17 => ?_)
      · have hf := ifF c17 hf
        refine lv_iload hx hb dX1_hoursOf_80 (lv_at hl 4 rfl) ?_
        refine lv_aload_n hx hb dX1_hoursOf_82 rfl (lv_at hl 1 rfl) ?_
        refine gx_X1_33_1000 E hX hD hP dX1_hoursOf_83 ?_
        refine lv_iload_n hx hb dX1_hoursOf_86 rfl (lv_at hl 3 rfl) ?_
        refine lv_iload hx hb dX1_hoursOf_87 (lv_at hl 0 rfl) ?_
        refine lv_iload_n hx hb dX1_hoursOf_89 rfl (lv_at hl 2 rfl) ?_
        obtain ⟨v18, u19, hf⟩ := bdP hf
        refine cx_X1_263_X3_cost E hX hD hP hS hA (kxX3_cost l D G hD sgX1_hoursOf_raI1170 rfl sgX1_hoursOf_rpR2 sgX1_hoursOf_rpR5 sgX1_hoursOf_rpR6 sgX1_hoursOf_rgG0 u19) ⟨rfl, rfl⟩ ⟨Nat.le_of_ble_eq_true rfl, Nat.le_of_ble_eq_true rfl⟩ ⟨Nat.zero_le _, Nat.zero_le _⟩ hl.1 (Nat.le_of_ble_eq_true rfl) dX1_hoursOf_90 (fun H locs hP hS => ?_)
        refine lv_iadd hx hb dX1_hoursOf_93 ?_
        obtain ⟨v20, hv20, hf⟩ := bdP hf
        refine nm_i (Option.some.inj hv20) ?_
        refine lv_istore (lv' := [(4, .int v20), (5, .int v14), (0, .ref (ad 1000)), (2, .int y9), (3, .int y10)]) hx hb dX1_hoursOf_94 hl (by decide) rfl (fun ls hl => ?_)
        refine lv_iload hx hb dX1_hoursOf_96 (lv_at hl 1 rfl) ?_
        refine lv_istore_n (lv' := [(3, .int v14), (4, .int v20), (5, .int v14), (0, .ref (ad 1000)), (2, .int y9)]) hx hb dX1_hoursOf_98 rfl hl (by decide) rfl (fun ls hl => ?_)
        refine lv_goto (tgt := 48) hx hb dX1_hoursOf_99 (by decide) ?_
        exact ih48 _ (Option.some.inj hf).symm H locs hP hS ls (lv_sub hl [3, 4, 0, 1] rfl) KE48_0 KE48_1
      · have hf := ifT c17 hf
        exact KE48_0 _ (hx48 _ (Option.some.inj hf).symm).symm H locs hP hS ls (lv_sub hl [] rfl)
  obtain ⟨ex48, hlp48, hf⟩ := bdP hf
  refine LP48 ((σ.1 2012), 0, (σ.2.2.1 1162)) ex48 hlp48 H locs hP hS ls (lv_sub hl [2, 3, 1, 0] rfl) ?_ ?_
  · intro a21 hex48 H locs hP hS ls hl
    subst ex48
    dsimp only [sE_l, sE_r] at hf
    refine lv_bipush hx hb dX1_hoursOf_77 bp_m2 ?_
    cases hf
    rw [hQ]; exact g_iret hx hb hr hlk hP hS dX1_hoursOf_79
  · intro y22 a23 hex48 H locs hP hS ls hl
    subst ex48
    dsimp only [sE_l, sE_r] at hf
    refine lv_iload hx hb dX1_hoursOf_102 (lv_at hl 0 rfl) ?_
    cases hf
    rw [hQ]; exact g_iret hx hb hr hlk hP hS dX1_hoursOf_104
theorem kxX1_hoursOf (l : Launch) (D : va_G) (G : Nat → ClassId) {dsc : Nat → Option Dsc} {ad : Nat → Nat} {σ : Sto} {nr nw nu : Nat} (hD : XD dsc nr nw nu) {x1 : Int32} {r_ : Int32} {w_aI1162 : Nat → Int32} {z_L_places : Int32} (e_zI2008 : σ.1 2008 = z_L_places) {z_L_from : Int32} (e_zI2012 : σ.1 2012 = z_L_from) {z_L_to : Int32} (e_zI2013 : σ.1 2013 = z_L_to) {z_Ld_size : Int32} (e_zI2027 : σ.1 2027 = z_Ld_size) {a_p3_far : Nat → Int32} (e_aI1162 : σ.2.2.1 1162 = a_p3_far) {a_UNIT : Nat → Int32} (e_aI1170 : σ.2.2.1 1170 = a_UNIT) {n_r : Nat} (e_nN0 : nr = n_r) {p_road_hours : Nat → Int32} (e_pR2 : (fun k => σ.1 (6000 + 16 * k + 2)) = p_road_hours) {p_road_wait : Nat → Int32} (e_pR5 : (fun k => σ.1 (6000 + 16 * k + 5)) = p_road_wait) {p_road_number : Nat → Int32} (e_pR6 : (fun k => σ.1 (6000 + 16 * k + 6)) = p_road_number) {g_grid : Nat → Nat → Int32} (e_gG0 : (fun k => σ.2.2.1 (4000 + 16 * k)) = g_grid) (hf : xo_X1_hoursOf z_L_places z_L_from z_L_to z_Ld_size a_p3_far a_UNIT n_r p_road_hours p_road_wait p_road_number g_grid x1 = some (r_, w_aI1162)) : CtG l D G dsc ad yX1_hoursOf (ws_ yX1_hoursOf cX1_hoursOf 6 (Option.some Jvm.ClassFile.FieldType.int)) rmX1_hoursOf [.ref (ad 1000), .int x1] σ (some (.int r_)) (aI σ 1162 w_aI1162) := by
  subst e_zI2008
  subst e_zI2012
  subst e_zI2013
  subst e_zI2027
  subst e_aI1162
  subst e_aI1170
  subst e_nN0
  subst e_pR2
  subst e_pR5
  subst e_pR6
  subst e_gG0
  exact p_ctG (by decide +kernel) (Nat.le_of_ble_eq_true rfl) (fun p e s m below meth c0 ls A E hP hX hA hS hl => wkX1_hoursOf E hX hD hA hf rfl hP hS hl)
theorem gx_X1_172_1000 {v : Int32} (E : EN p s m args meth c0 RX1 cc nL ret) (hX : KX D G ad A s s.heap) (hD : XD dsc nr nw nu) (hP : PIC D clsA G dsc ad σ H) (hv : σ.1 1018 = v) (hdg : decode cc pc = .ok (.getfield 172, 3)) (kk : W p l e R s m args below meth c0 H locs cells slots Q (F0 m (pc + 3) ls (.int v :: rest))) : W p l e R s m args below meth c0 H locs cells slots Q (F0 m pc ls (.ref (ad 1000) :: rest)) :=
  p_get E.1.1 E.1.2.1 E.1.2.2.2.2 in_X1 E.1.2.2.2.1 hX.1 hP (hD.1 _ _ dX_1000) rfl 18 (by decide) (E.1.2.2.2.2 _ q530) (fun _ h => h) rfl (congrArg Value.int hv) hdg kk
theorem ux_X1_172_1000 {v : Int32} {σ1 : Sto} (E : EN p s m args meth c0 RX1 cc nL ret) (hX : KX D G ad A s s.heap) (hD : XD dsc nr nw nu) (hP : PIC D clsA G dsc ad σ H) (hS : va_S A s.heap H locs) (hA : A (ad 1000)) (hz : narrow .boolean (.int v) = .int v) (hz2 : fits .boolean (.int v) = true) (hσ : zI σ 1018 v = σ1) (hdg : decode cc pc = .ok (.putfield 172, 3)) (kk : ∀ (H1 : Heap) (locs1 : List Loc), PIC D clsA G dsc ad σ1 H1 → va_S A s.heap H1 locs1 → W p l e R s m args below meth c0 H1 locs1 cells slots Q (F0 m (pc + 3) ls rest)) : W p l e R s m args below meth c0 H locs cells slots Q (F0 m pc ls (.int v :: .ref (ad 1000) :: rest)) :=
  p_puti2 E.1.1 E.1.2.1 E.1.2.2.2.2 in_X1 tyX1 tyX1_ok E.1.2.2.2.1 hX.1 hP hS hA (hD.1 _ _ dX_1000) rfl 18 (by decide) (by decide +kernel) (E.1.2.2.2.2 _ q530) (fun _ h => h) rfl rfl hz hz2 rfl hσ hdg kk
theorem gx_X1_40_1000 (E : EN p s m args meth c0 RX1 cc nL ret) (hX : KX D G ad A s s.heap) (hD : XD dsc nr nw nu) (hP : PIC D clsA G dsc ad σ H) (hdg : decode cc pc = .ok (.getfield 40, 3)) (kk : W p l e R s m args below meth c0 H locs cells slots Q (F0 m (pc + 3) ls (.ref (ad 1050) :: rest))) : W p l e R s m args below meth c0 H locs cells slots Q (F0 m pc ls (.ref (ad 1000) :: rest)) :=
  p_get E.1.1 E.1.2.1 E.1.2.2.2.2 in_X1 E.1.2.2.2.1 hX.1 hP (hD.1 _ _ dX_1000) rfl 6 (by decide) (E.1.2.2.2.2 _ q515) (fun _ h => h) rfl rfl hdg kk
theorem cx_X1_227_X4_lay_W {rm : Room} {σ1 : Sto} {x2 : Int32} {x3 : Int32} (E : EN p s m args meth c0 RX1 cc nL ret) (hX : KX D G ad A s s.heap) (hD : XD dsc nr nw nu) (hP : PIC D clsA G dsc ad σ H) (hS : va_S A s.heap H locs) (hA : ∀ q, PA dsc ad s.heap.size q → A q) (hM : CtG l D G dsc ad yX4_lay (ws_ yX4_lay cX4_lay 8 (Option.none : Option Jvm.ClassFile.FieldType)) rm [.ref (ad 1050), .ref (ad 2000), .int x2, .int x3] σ none σ1) (hz : rm.cells = 0 ∧ rm.slots = 0) (hR : rm.frames + 1 ≤ R.frames ∧ 8 + (8 + 11) + rm.locals ≤ R.locals) (hcs : cells ≤ R.cells ∧ slots ≤ R.slots) (hsz : ls.size = nL) (hW : (rest.map fun v => v.category).sum ≤ 8) (hdg : decode cc pc = .ok (.invokevirtual 227, 3)) (kk : ∀ (H1 : Heap) (locs1 : List Loc), PIC D clsA G dsc ad σ1 H1 → va_S A s.heap H1 locs1 → W p l e R s m args below meth c0 H1 locs1 cells slots Q (F0 m (pc + 3) ls (rest))) : W p l e R s m args below meth c0 H locs cells slots Q (F0 m pc ls (.int x3 :: .int x2 :: .ref (ad 2000) :: .ref (ad 1050) :: rest)) :=
  p_gV (As := [.ref (ad 2000), .int x2, .int x3]) (rest := rest) E.1 hX hP hS hA hM (cwV 3 E.1.2.2.2.2 (lw_V q1001 q1002 q1003 q130 q1004) rfl hz.1 hz.2 (by decide +kernel) hR) (hD.1 _ _ dX_1050) rfl rfl rfl hsz rfl hW hdg hcs kk
theorem cx_X1_235_X5_lay_TB_W {rm : Room} {σ1 : Sto} (E : EN p s m args meth c0 RX1 cc nL ret) (hX : KX D G ad A s s.heap) (hD : XD dsc nr nw nu) (hP : PIC D clsA G dsc ad σ H) (hS : va_S A s.heap H locs) (hA : ∀ q, PA dsc ad s.heap.size q → A q) (hM : CtG l D G dsc ad yX5_lay (ws_ yX5_lay cX5_lay 4 (Option.none : Option Jvm.ClassFile.FieldType)) rm [.ref (ad 1060), .ref (ad 1050)] σ none σ1) (hz : rm.cells = 0 ∧ rm.slots = 0) (hR : rm.frames + 1 ≤ R.frames ∧ 8 + (4 + 11) + rm.locals ≤ R.locals) (hcs : cells ≤ R.cells ∧ slots ≤ R.slots) (hsz : ls.size = nL) (hW : (rest.map fun v => v.category).sum ≤ 8) (hdg : decode cc pc = .ok (.invokevirtual 235, 3)) (kk : ∀ (H1 : Heap) (locs1 : List Loc), PIC D clsA G dsc ad σ1 H1 → va_S A s.heap H1 locs1 → W p l e R s m args below meth c0 H1 locs1 cells slots Q (F0 m (pc + 3) ls (rest))) : W p l e R s m args below meth c0 H locs cells slots Q (F0 m pc ls (.ref (ad 1050) :: .ref (ad 1060) :: rest)) :=
  p_gU (As := [.ref (ad 1050)]) (rest := rest) E.1 hX hP hS hA hM (cw_any (owner := "ShutPasses$Table") (x := ⟨"ShutPasses$InMean", "lay", "(LShutPasses$Weights;)V"⟩) (y := yX5_lay) (C := "ShutPasses$InMean") (index := 235) (own := RX1) 1 E.1.2.2.2.2 (lw_meth q1050) rfl hz.1 hz.2 (E.1.2.2.2.2 _ q1044) (E.1.2.2.2.2 _ q1045) (va_Decl.of (E.1.2.2.2.2 _ q1049) (E.1.2.2.2.2 _ q1050)) (E.1.2.2.2.2 _ q1048) (E.1.2.2.2.2 _ q1049) (E.1.2.2.2.2 _ q131) (by decide +kernel) hR) (hD.1 _ _ dX_1060) rfl rfl rfl hsz rfl hW hdg hcs kk
theorem gx_X1_63_1000 (E : EN p s m args meth c0 RX1 cc nL ret) (hX : KX D G ad A s s.heap) (hD : XD dsc nr nw nu) (hP : PIC D clsA G dsc ad σ H) (hdg : decode cc pc = .ok (.getfield 63, 3)) (kk : W p l e R s m args below meth c0 H locs cells slots Q (F0 m (pc + 3) ls (.ref (ad 1080) :: rest))) : W p l e R s m args below meth c0 H locs cells slots Q (F0 m pc ls (.ref (ad 1000) :: rest)) :=
  p_get E.1.1 E.1.2.1 E.1.2.2.2.2 in_X1 E.1.2.2.2.1 hX.1 hP (hD.1 _ _ dX_1000) rfl 11 (by decide) (E.1.2.2.2.2 _ q522) (fun _ h => h) rfl rfl hdg kk
theorem cx_X1_238_X5_lay_TS_W {rm : Room} {σ1 : Sto} (E : EN p s m args meth c0 RX1 cc nL ret) (hX : KX D G ad A s s.heap) (hD : XD dsc nr nw nu) (hP : PIC D clsA G dsc ad σ H) (hS : va_S A s.heap H locs) (hA : ∀ q, PA dsc ad s.heap.size q → A q) (hM : CtG l D G dsc ad yX5_lay (ws_ yX5_lay cX5_lay 4 (Option.none : Option Jvm.ClassFile.FieldType)) rm [.ref (ad 1080), .ref (ad 1050)] σ none σ1) (hz : rm.cells = 0 ∧ rm.slots = 0) (hR : rm.frames + 1 ≤ R.frames ∧ 8 + (4 + 11) + rm.locals ≤ R.locals) (hcs : cells ≤ R.cells ∧ slots ≤ R.slots) (hsz : ls.size = nL) (hW : (rest.map fun v => v.category).sum ≤ 8) (hdg : decode cc pc = .ok (.invokevirtual 238, 3)) (kk : ∀ (H1 : Heap) (locs1 : List Loc), PIC D clsA G dsc ad σ1 H1 → va_S A s.heap H1 locs1 → W p l e R s m args below meth c0 H1 locs1 cells slots Q (F0 m (pc + 3) ls (rest))) : W p l e R s m args below meth c0 H locs cells slots Q (F0 m pc ls (.ref (ad 1050) :: .ref (ad 1080) :: rest)) :=
  p_gU (As := [.ref (ad 1050)]) (rest := rest) E.1 hX hP hS hA hM (cw_any (owner := "ShutPasses$Table") (x := ⟨"ShutPasses$AtWorst", "lay", "(LShutPasses$Weights;)V"⟩) (y := yX5_lay) (C := "ShutPasses$AtWorst") (index := 238) (own := RX1) 1 E.1.2.2.2.2 (lw_meth q1050) rfl hz.1 hz.2 (E.1.2.2.2.2 _ q1190) (E.1.2.2.2.2 _ q1191) (va_Decl.of (E.1.2.2.2.2 _ q1049) (E.1.2.2.2.2 _ q1050)) (E.1.2.2.2.2 _ q1192) (E.1.2.2.2.2 _ q1049) (E.1.2.2.2.2 _ q131) (by decide +kernel) hR) (hD.1 _ _ dX_1080) rfl rfl rfl hsz rfl hW hdg hcs kk
theorem cx_X1_239_X3_worlds {rm : Room} {σ1 : Sto} {r : Int32} (E : EN p s m args meth c0 RX1 cc nL ret) (hX : KX D G ad A s s.heap) (hD : XD dsc nr nw nu) (hP : PIC D clsA G dsc ad σ H) (hS : va_S A s.heap H locs) (hA : ∀ q, PA dsc ad s.heap.size q → A q) (hM : CtG l D G dsc ad yX3_worlds (ws_ yX3_worlds cX3_worlds 1 (Option.some Jvm.ClassFile.FieldType.int)) rm [.ref (ad 2000)] σ (some (.int r)) σ1) (hz : rm.cells = 0 ∧ rm.slots = 0) (hR : rm.frames + 1 ≤ R.frames ∧ 8 + (1 + 11) + rm.locals ≤ R.locals) (hcs : cells ≤ R.cells ∧ slots ≤ R.slots) (hsz : ls.size = nL) (hW : (rest.map fun v => v.category).sum ≤ 8) (hdg : decode cc pc = .ok (.invokevirtual 239, 3)) (kk : ∀ (H1 : Heap) (locs1 : List Loc), PIC D clsA G dsc ad σ1 H1 → va_S A s.heap H1 locs1 → W p l e R s m args below meth c0 H1 locs1 cells slots Q (F0 m (pc + 3) ls (.int r :: rest))) : W p l e R s m args below meth c0 H locs cells slots Q (F0 m pc ls (.ref (ad 2000) :: rest)) :=
  p_gV (As := []) (rest := rest) E.1 hX hP hS hA hM (cwV 0 E.1.2.2.2.2 (lw_V q991 q992 q993 q126 q994) rfl hz.1 hz.2 (by decide +kernel) hR) (hD.1 _ _ dX_2000) rfl rfl rfl hsz rfl hW hdg hcs kk
theorem gx_X1_47_1000 (E : EN p s m args meth c0 RX1 cc nL ret) (hX : KX D G ad A s s.heap) (hD : XD dsc nr nw nu) (hP : PIC D clsA G dsc ad σ H) (hdg : decode cc pc = .ok (.getfield 47, 3)) (kk : W p l e R s m args below meth c0 H locs cells slots Q (F0 m (pc + 3) ls (.ref (ad 1108) :: rest))) : W p l e R s m args below meth c0 H locs cells slots Q (F0 m pc ls (.ref (ad 1000) :: rest)) :=
  p_get E.1.1 E.1.2.1 E.1.2.2.2.2 in_X1 E.1.2.2.2.1 hX.1 hP (hD.1 _ _ dX_1000) rfl 8 (by decide) (E.1.2.2.2.2 _ q519) (fun _ h => h) rfl rfl hdg kk
theorem cx_X1_242_X1_hoursOf {rm : Room} {σ1 : Sto} {x1 : Int32} {r : Int32} (E : EN p s m args meth c0 RX1 cc nL ret) (hX : KX D G ad A s s.heap) (hD : XD dsc nr nw nu) (hP : PIC D clsA G dsc ad σ H) (hS : va_S A s.heap H locs) (hA : ∀ q, PA dsc ad s.heap.size q → A q) (hM : CtG l D G dsc ad yX1_hoursOf (ws_ yX1_hoursOf cX1_hoursOf 6 (Option.some Jvm.ClassFile.FieldType.int)) rm [.ref (ad 1000), .int x1] σ (some (.int r)) σ1) (hz : rm.cells = 0 ∧ rm.slots = 0) (hR : rm.frames + 1 ≤ R.frames ∧ 8 + (6 + 11) + rm.locals ≤ R.locals) (hcs : cells ≤ R.cells ∧ slots ≤ R.slots) (hsz : ls.size = nL) (hW : (rest.map fun v => v.category).sum ≤ 8) (hdg : decode cc pc = .ok (.invokevirtual 242, 3)) (kk : ∀ (H1 : Heap) (locs1 : List Loc), PIC D clsA G dsc ad σ1 H1 → va_S A s.heap H1 locs1 → W p l e R s m args below meth c0 H1 locs1 cells slots Q (F0 m (pc + 3) ls (.int r :: rest))) : W p l e R s m args below meth c0 H locs cells slots Q (F0 m pc ls (.int x1 :: .ref (ad 1000) :: rest)) :=
  p_gV (As := [.int x1]) (rest := rest) E.1 hX hP hS hA hM (cwV 1 E.1.2.2.2.2 (lw_V q1193 q1195 qs23 q124 q1196) rfl hz.1 hz.2 (by decide +kernel) hR) (hD.1 _ _ dX_1000) rfl rfl rfl hsz rfl hW hdg hcs kk
/-! X1_lay ()V -/
def sgX1_lay (σ : Sto) (w0 : Int32) (w1 : Int32) (w2 : Int32) (w3 : Int64) (w4 : Nat → Int32) (w5 : Nat → Int32) (w6 : Nat → Int64) (w7 : Nat → Int64) (w8 : Nat → Int64) (w9 : Nat → Int64) : Sto := aL (aL (aL (aL (aI (aI (zL (zI (zI (zI σ 1018 w0) 1062 w1) 1082 w2) 1052 w3) 1108 w4) 1162 w5) 1140 w6) 1141 w7) 1150 w8) 1152 w9
theorem sgX1_lay_self (σ : Sto) : sgX1_lay σ (σ.1 1018) (σ.1 1062) (σ.1 1082) (σ.2.1 1052) (σ.2.2.1 1108) (σ.2.2.1 1162) (σ.2.2.2.1 1140) (σ.2.2.2.1 1141) (σ.2.2.2.1 1150) (σ.2.2.2.1 1152) = σ := by
  unfold sgX1_lay
  simp only [zI_self, zL_self, aI_self, aL_self]
theorem sgX1_lay_zI1018 {σ : Sto} {w0 : Int32} {w1 : Int32} {w2 : Int32} {w3 : Int64} {w4 : Nat → Int32} {w5 : Nat → Int32} {w6 : Nat → Int64} {w7 : Nat → Int64} {w8 : Nat → Int64} {w9 : Nat → Int64} {g : Int32} : zI (sgX1_lay σ w0 w1 w2 w3 w4 w5 w6 w7 w8 w9) 1018 g = sgX1_lay σ g w1 w2 w3 w4 w5 w6 w7 w8 w9 := (cm_zI_aL _ _ _ _ _).trans (congrArg (fun z => aL z 1152 w9) ((cm_zI_aL _ _ _ _ _).trans (congrArg (fun z => aL z 1150 w8) ((cm_zI_aL _ _ _ _ _).trans (congrArg (fun z => aL z 1141 w7) ((cm_zI_aL _ _ _ _ _).trans (congrArg (fun z => aL z 1140 w6) ((cm_zI_aI _ _ _ _ _).trans (congrArg (fun z => aI z 1162 w5) ((cm_zI_aI _ _ _ _ _).trans (congrArg (fun z => aI z 1108 w4) ((cm_zI_zL _ _ _ _ _).trans (congrArg (fun z => zL z 1052 w3) ((zI_comm _ (by decide) _ _).trans (congrArg (fun z => zI z 1082 w2) ((zI_comm _ (by decide) _ _).trans (congrArg (fun z => zI z 1062 w1) (zI_zI _ 1018 _ _))))))))))))))))))
theorem sgX1_lay_zI1062 {σ : Sto} {w0 : Int32} {w1 : Int32} {w2 : Int32} {w3 : Int64} {w4 : Nat → Int32} {w5 : Nat → Int32} {w6 : Nat → Int64} {w7 : Nat → Int64} {w8 : Nat → Int64} {w9 : Nat → Int64} {g : Int32} : zI (sgX1_lay σ w0 w1 w2 w3 w4 w5 w6 w7 w8 w9) 1062 g = sgX1_lay σ w0 g w2 w3 w4 w5 w6 w7 w8 w9 := (cm_zI_aL _ _ _ _ _).trans (congrArg (fun z => aL z 1152 w9) ((cm_zI_aL _ _ _ _ _).trans (congrArg (fun z => aL z 1150 w8) ((cm_zI_aL _ _ _ _ _).trans (congrArg (fun z => aL z 1141 w7) ((cm_zI_aL _ _ _ _ _).trans (congrArg (fun z => aL z 1140 w6) ((cm_zI_aI _ _ _ _ _).trans (congrArg (fun z => aI z 1162 w5) ((cm_zI_aI _ _ _ _ _).trans (congrArg (fun z => aI z 1108 w4) ((cm_zI_zL _ _ _ _ _).trans (congrArg (fun z => zL z 1052 w3) ((zI_comm _ (by decide) _ _).trans (congrArg (fun z => zI z 1082 w2) (zI_zI _ 1062 _ _))))))))))))))))
theorem sgX1_lay_zI1082 {σ : Sto} {w0 : Int32} {w1 : Int32} {w2 : Int32} {w3 : Int64} {w4 : Nat → Int32} {w5 : Nat → Int32} {w6 : Nat → Int64} {w7 : Nat → Int64} {w8 : Nat → Int64} {w9 : Nat → Int64} {g : Int32} : zI (sgX1_lay σ w0 w1 w2 w3 w4 w5 w6 w7 w8 w9) 1082 g = sgX1_lay σ w0 w1 g w3 w4 w5 w6 w7 w8 w9 := (cm_zI_aL _ _ _ _ _).trans (congrArg (fun z => aL z 1152 w9) ((cm_zI_aL _ _ _ _ _).trans (congrArg (fun z => aL z 1150 w8) ((cm_zI_aL _ _ _ _ _).trans (congrArg (fun z => aL z 1141 w7) ((cm_zI_aL _ _ _ _ _).trans (congrArg (fun z => aL z 1140 w6) ((cm_zI_aI _ _ _ _ _).trans (congrArg (fun z => aI z 1162 w5) ((cm_zI_aI _ _ _ _ _).trans (congrArg (fun z => aI z 1108 w4) ((cm_zI_zL _ _ _ _ _).trans (congrArg (fun z => zL z 1052 w3) (zI_zI _ 1082 _ _))))))))))))))
theorem sgX1_lay_zL1052 {σ : Sto} {w0 : Int32} {w1 : Int32} {w2 : Int32} {w3 : Int64} {w4 : Nat → Int32} {w5 : Nat → Int32} {w6 : Nat → Int64} {w7 : Nat → Int64} {w8 : Nat → Int64} {w9 : Nat → Int64} {g : Int64} : zL (sgX1_lay σ w0 w1 w2 w3 w4 w5 w6 w7 w8 w9) 1052 g = sgX1_lay σ w0 w1 w2 g w4 w5 w6 w7 w8 w9 := (cm_zL_aL _ _ _ _ _).trans (congrArg (fun z => aL z 1152 w9) ((cm_zL_aL _ _ _ _ _).trans (congrArg (fun z => aL z 1150 w8) ((cm_zL_aL _ _ _ _ _).trans (congrArg (fun z => aL z 1141 w7) ((cm_zL_aL _ _ _ _ _).trans (congrArg (fun z => aL z 1140 w6) ((cm_zL_aI _ _ _ _ _).trans (congrArg (fun z => aI z 1162 w5) ((cm_zL_aI _ _ _ _ _).trans (congrArg (fun z => aI z 1108 w4) (zL_zL _ 1052 _ _))))))))))))
theorem sgX1_lay_aI1108 {σ : Sto} {w0 : Int32} {w1 : Int32} {w2 : Int32} {w3 : Int64} {w4 : Nat → Int32} {w5 : Nat → Int32} {w6 : Nat → Int64} {w7 : Nat → Int64} {w8 : Nat → Int64} {w9 : Nat → Int64} {g : Nat → Int32} : aI (sgX1_lay σ w0 w1 w2 w3 w4 w5 w6 w7 w8 w9) 1108 g = sgX1_lay σ w0 w1 w2 w3 g w5 w6 w7 w8 w9 := (cm_aI_aL _ _ _ _ _).trans (congrArg (fun z => aL z 1152 w9) ((cm_aI_aL _ _ _ _ _).trans (congrArg (fun z => aL z 1150 w8) ((cm_aI_aL _ _ _ _ _).trans (congrArg (fun z => aL z 1141 w7) ((cm_aI_aL _ _ _ _ _).trans (congrArg (fun z => aL z 1140 w6) ((aI_comm _ (by decide) _ _).trans (congrArg (fun z => aI z 1162 w5) (aI_aI _ 1108 _ _))))))))))
theorem sgX1_lay_aI1162 {σ : Sto} {w0 : Int32} {w1 : Int32} {w2 : Int32} {w3 : Int64} {w4 : Nat → Int32} {w5 : Nat → Int32} {w6 : Nat → Int64} {w7 : Nat → Int64} {w8 : Nat → Int64} {w9 : Nat → Int64} {g : Nat → Int32} : aI (sgX1_lay σ w0 w1 w2 w3 w4 w5 w6 w7 w8 w9) 1162 g = sgX1_lay σ w0 w1 w2 w3 w4 g w6 w7 w8 w9 := (cm_aI_aL _ _ _ _ _).trans (congrArg (fun z => aL z 1152 w9) ((cm_aI_aL _ _ _ _ _).trans (congrArg (fun z => aL z 1150 w8) ((cm_aI_aL _ _ _ _ _).trans (congrArg (fun z => aL z 1141 w7) ((cm_aI_aL _ _ _ _ _).trans (congrArg (fun z => aL z 1140 w6) (aI_aI _ 1162 _ _))))))))
theorem sgX1_lay_aL1140 {σ : Sto} {w0 : Int32} {w1 : Int32} {w2 : Int32} {w3 : Int64} {w4 : Nat → Int32} {w5 : Nat → Int32} {w6 : Nat → Int64} {w7 : Nat → Int64} {w8 : Nat → Int64} {w9 : Nat → Int64} {g : Nat → Int64} : aL (sgX1_lay σ w0 w1 w2 w3 w4 w5 w6 w7 w8 w9) 1140 g = sgX1_lay σ w0 w1 w2 w3 w4 w5 g w7 w8 w9 := (aL_comm _ (by decide) _ _).trans (congrArg (fun z => aL z 1152 w9) ((aL_comm _ (by decide) _ _).trans (congrArg (fun z => aL z 1150 w8) ((aL_comm _ (by decide) _ _).trans (congrArg (fun z => aL z 1141 w7) (aL_aL _ 1140 _ _))))))
theorem sgX1_lay_aL1141 {σ : Sto} {w0 : Int32} {w1 : Int32} {w2 : Int32} {w3 : Int64} {w4 : Nat → Int32} {w5 : Nat → Int32} {w6 : Nat → Int64} {w7 : Nat → Int64} {w8 : Nat → Int64} {w9 : Nat → Int64} {g : Nat → Int64} : aL (sgX1_lay σ w0 w1 w2 w3 w4 w5 w6 w7 w8 w9) 1141 g = sgX1_lay σ w0 w1 w2 w3 w4 w5 w6 g w8 w9 := (aL_comm _ (by decide) _ _).trans (congrArg (fun z => aL z 1152 w9) ((aL_comm _ (by decide) _ _).trans (congrArg (fun z => aL z 1150 w8) (aL_aL _ 1141 _ _))))
theorem sgX1_lay_aL1150 {σ : Sto} {w0 : Int32} {w1 : Int32} {w2 : Int32} {w3 : Int64} {w4 : Nat → Int32} {w5 : Nat → Int32} {w6 : Nat → Int64} {w7 : Nat → Int64} {w8 : Nat → Int64} {w9 : Nat → Int64} {g : Nat → Int64} : aL (sgX1_lay σ w0 w1 w2 w3 w4 w5 w6 w7 w8 w9) 1150 g = sgX1_lay σ w0 w1 w2 w3 w4 w5 w6 w7 g w9 := (aL_comm _ (by decide) _ _).trans (congrArg (fun z => aL z 1152 w9) (aL_aL _ 1150 _ _))
theorem sgX1_lay_aL1152 {σ : Sto} {w0 : Int32} {w1 : Int32} {w2 : Int32} {w3 : Int64} {w4 : Nat → Int32} {w5 : Nat → Int32} {w6 : Nat → Int64} {w7 : Nat → Int64} {w8 : Nat → Int64} {w9 : Nat → Int64} {g : Nat → Int64} : aL (sgX1_lay σ w0 w1 w2 w3 w4 w5 w6 w7 w8 w9) 1152 g = sgX1_lay σ w0 w1 w2 w3 w4 w5 w6 w7 w8 g := aL_aL _ 1152 _ _
theorem sgX1_lay_rzI1018 {σ : Sto} {w0 : Int32} {w1 : Int32} {w2 : Int32} {w3 : Int64} {w4 : Nat → Int32} {w5 : Nat → Int32} {w6 : Nat → Int64} {w7 : Nat → Int64} {w8 : Nat → Int64} {w9 : Nat → Int64} : (sgX1_lay σ w0 w1 w2 w3 w4 w5 w6 w7 w8 w9).1 1018 = w0 := rfl
theorem sgX1_lay_rzI1062 {σ : Sto} {w0 : Int32} {w1 : Int32} {w2 : Int32} {w3 : Int64} {w4 : Nat → Int32} {w5 : Nat → Int32} {w6 : Nat → Int64} {w7 : Nat → Int64} {w8 : Nat → Int64} {w9 : Nat → Int64} : (sgX1_lay σ w0 w1 w2 w3 w4 w5 w6 w7 w8 w9).1 1062 = w1 := rfl
theorem sgX1_lay_rzI1082 {σ : Sto} {w0 : Int32} {w1 : Int32} {w2 : Int32} {w3 : Int64} {w4 : Nat → Int32} {w5 : Nat → Int32} {w6 : Nat → Int64} {w7 : Nat → Int64} {w8 : Nat → Int64} {w9 : Nat → Int64} : (sgX1_lay σ w0 w1 w2 w3 w4 w5 w6 w7 w8 w9).1 1082 = w2 := rfl
theorem sgX1_lay_rzI2008 {σ : Sto} {w0 : Int32} {w1 : Int32} {w2 : Int32} {w3 : Int64} {w4 : Nat → Int32} {w5 : Nat → Int32} {w6 : Nat → Int64} {w7 : Nat → Int64} {w8 : Nat → Int64} {w9 : Nat → Int64} : (sgX1_lay σ w0 w1 w2 w3 w4 w5 w6 w7 w8 w9).1 2008 = σ.1 2008 := rfl
theorem sgX1_lay_rzI2009 {σ : Sto} {w0 : Int32} {w1 : Int32} {w2 : Int32} {w3 : Int64} {w4 : Nat → Int32} {w5 : Nat → Int32} {w6 : Nat → Int64} {w7 : Nat → Int64} {w8 : Nat → Int64} {w9 : Nat → Int64} : (sgX1_lay σ w0 w1 w2 w3 w4 w5 w6 w7 w8 w9).1 2009 = σ.1 2009 := rfl
theorem sgX1_lay_rzI2012 {σ : Sto} {w0 : Int32} {w1 : Int32} {w2 : Int32} {w3 : Int64} {w4 : Nat → Int32} {w5 : Nat → Int32} {w6 : Nat → Int64} {w7 : Nat → Int64} {w8 : Nat → Int64} {w9 : Nat → Int64} : (sgX1_lay σ w0 w1 w2 w3 w4 w5 w6 w7 w8 w9).1 2012 = σ.1 2012 := rfl
theorem sgX1_lay_rzI2013 {σ : Sto} {w0 : Int32} {w1 : Int32} {w2 : Int32} {w3 : Int64} {w4 : Nat → Int32} {w5 : Nat → Int32} {w6 : Nat → Int64} {w7 : Nat → Int64} {w8 : Nat → Int64} {w9 : Nat → Int64} : (sgX1_lay σ w0 w1 w2 w3 w4 w5 w6 w7 w8 w9).1 2013 = σ.1 2013 := rfl
theorem sgX1_lay_rzI2027 {σ : Sto} {w0 : Int32} {w1 : Int32} {w2 : Int32} {w3 : Int64} {w4 : Nat → Int32} {w5 : Nat → Int32} {w6 : Nat → Int64} {w7 : Nat → Int64} {w8 : Nat → Int64} {w9 : Nat → Int64} : (sgX1_lay σ w0 w1 w2 w3 w4 w5 w6 w7 w8 w9).1 2027 = σ.1 2027 := rfl
theorem sgX1_lay_rzI2032 {σ : Sto} {w0 : Int32} {w1 : Int32} {w2 : Int32} {w3 : Int64} {w4 : Nat → Int32} {w5 : Nat → Int32} {w6 : Nat → Int64} {w7 : Nat → Int64} {w8 : Nat → Int64} {w9 : Nat → Int64} : (sgX1_lay σ w0 w1 w2 w3 w4 w5 w6 w7 w8 w9).1 2032 = σ.1 2032 := rfl
theorem sgX1_lay_rzL1052 {σ : Sto} {w0 : Int32} {w1 : Int32} {w2 : Int32} {w3 : Int64} {w4 : Nat → Int32} {w5 : Nat → Int32} {w6 : Nat → Int64} {w7 : Nat → Int64} {w8 : Nat → Int64} {w9 : Nat → Int64} : (sgX1_lay σ w0 w1 w2 w3 w4 w5 w6 w7 w8 w9).2.1 1052 = w3 := rfl
theorem sgX1_lay_rzL1061 {σ : Sto} {w0 : Int32} {w1 : Int32} {w2 : Int32} {w3 : Int64} {w4 : Nat → Int32} {w5 : Nat → Int32} {w6 : Nat → Int64} {w7 : Nat → Int64} {w8 : Nat → Int64} {w9 : Nat → Int64} : (sgX1_lay σ w0 w1 w2 w3 w4 w5 w6 w7 w8 w9).2.1 1061 = σ.2.1 1061 := rfl
theorem sgX1_lay_rzL1081 {σ : Sto} {w0 : Int32} {w1 : Int32} {w2 : Int32} {w3 : Int64} {w4 : Nat → Int32} {w5 : Nat → Int32} {w6 : Nat → Int64} {w7 : Nat → Int64} {w8 : Nat → Int64} {w9 : Nat → Int64} : (sgX1_lay σ w0 w1 w2 w3 w4 w5 w6 w7 w8 w9).2.1 1081 = σ.2.1 1081 := rfl
theorem sgX1_lay_raI1108 {σ : Sto} {w0 : Int32} {w1 : Int32} {w2 : Int32} {w3 : Int64} {w4 : Nat → Int32} {w5 : Nat → Int32} {w6 : Nat → Int64} {w7 : Nat → Int64} {w8 : Nat → Int64} {w9 : Nat → Int64} : (sgX1_lay σ w0 w1 w2 w3 w4 w5 w6 w7 w8 w9).2.2.1 1108 = w4 := rfl
theorem sgX1_lay_raI1162 {σ : Sto} {w0 : Int32} {w1 : Int32} {w2 : Int32} {w3 : Int64} {w4 : Nat → Int32} {w5 : Nat → Int32} {w6 : Nat → Int64} {w7 : Nat → Int64} {w8 : Nat → Int64} {w9 : Nat → Int64} : (sgX1_lay σ w0 w1 w2 w3 w4 w5 w6 w7 w8 w9).2.2.1 1162 = w5 := rfl
theorem sgX1_lay_raI1170 {σ : Sto} {w0 : Int32} {w1 : Int32} {w2 : Int32} {w3 : Int64} {w4 : Nat → Int32} {w5 : Nat → Int32} {w6 : Nat → Int64} {w7 : Nat → Int64} {w8 : Nat → Int64} {w9 : Nat → Int64} : (sgX1_lay σ w0 w1 w2 w3 w4 w5 w6 w7 w8 w9).2.2.1 1170 = σ.2.2.1 1170 := rfl
theorem sgX1_lay_raI2036 {σ : Sto} {w0 : Int32} {w1 : Int32} {w2 : Int32} {w3 : Int64} {w4 : Nat → Int32} {w5 : Nat → Int32} {w6 : Nat → Int64} {w7 : Nat → Int64} {w8 : Nat → Int64} {w9 : Nat → Int64} : (sgX1_lay σ w0 w1 w2 w3 w4 w5 w6 w7 w8 w9).2.2.1 2036 = σ.2.2.1 2036 := rfl
theorem sgX1_lay_raI2037 {σ : Sto} {w0 : Int32} {w1 : Int32} {w2 : Int32} {w3 : Int64} {w4 : Nat → Int32} {w5 : Nat → Int32} {w6 : Nat → Int64} {w7 : Nat → Int64} {w8 : Nat → Int64} {w9 : Nat → Int64} : (sgX1_lay σ w0 w1 w2 w3 w4 w5 w6 w7 w8 w9).2.2.1 2037 = σ.2.2.1 2037 := rfl
theorem sgX1_lay_raI2042 {σ : Sto} {w0 : Int32} {w1 : Int32} {w2 : Int32} {w3 : Int64} {w4 : Nat → Int32} {w5 : Nat → Int32} {w6 : Nat → Int64} {w7 : Nat → Int64} {w8 : Nat → Int64} {w9 : Nat → Int64} : (sgX1_lay σ w0 w1 w2 w3 w4 w5 w6 w7 w8 w9).2.2.1 2042 = σ.2.2.1 2042 := rfl
theorem sgX1_lay_raI2043 {σ : Sto} {w0 : Int32} {w1 : Int32} {w2 : Int32} {w3 : Int64} {w4 : Nat → Int32} {w5 : Nat → Int32} {w6 : Nat → Int64} {w7 : Nat → Int64} {w8 : Nat → Int64} {w9 : Nat → Int64} : (sgX1_lay σ w0 w1 w2 w3 w4 w5 w6 w7 w8 w9).2.2.1 2043 = σ.2.2.1 2043 := rfl
theorem sgX1_lay_raL1140 {σ : Sto} {w0 : Int32} {w1 : Int32} {w2 : Int32} {w3 : Int64} {w4 : Nat → Int32} {w5 : Nat → Int32} {w6 : Nat → Int64} {w7 : Nat → Int64} {w8 : Nat → Int64} {w9 : Nat → Int64} : (sgX1_lay σ w0 w1 w2 w3 w4 w5 w6 w7 w8 w9).2.2.2.1 1140 = w6 := rfl
theorem sgX1_lay_raL1141 {σ : Sto} {w0 : Int32} {w1 : Int32} {w2 : Int32} {w3 : Int64} {w4 : Nat → Int32} {w5 : Nat → Int32} {w6 : Nat → Int64} {w7 : Nat → Int64} {w8 : Nat → Int64} {w9 : Nat → Int64} : (sgX1_lay σ w0 w1 w2 w3 w4 w5 w6 w7 w8 w9).2.2.2.1 1141 = w7 := rfl
theorem sgX1_lay_raL1150 {σ : Sto} {w0 : Int32} {w1 : Int32} {w2 : Int32} {w3 : Int64} {w4 : Nat → Int32} {w5 : Nat → Int32} {w6 : Nat → Int64} {w7 : Nat → Int64} {w8 : Nat → Int64} {w9 : Nat → Int64} : (sgX1_lay σ w0 w1 w2 w3 w4 w5 w6 w7 w8 w9).2.2.2.1 1150 = w8 := rfl
theorem sgX1_lay_raL1152 {σ : Sto} {w0 : Int32} {w1 : Int32} {w2 : Int32} {w3 : Int64} {w4 : Nat → Int32} {w5 : Nat → Int32} {w6 : Nat → Int64} {w7 : Nat → Int64} {w8 : Nat → Int64} {w9 : Nat → Int64} : (sgX1_lay σ w0 w1 w2 w3 w4 w5 w6 w7 w8 w9).2.2.2.1 1152 = w9 := rfl
theorem sgX1_lay_rpR2 {σ : Sto} {w0 : Int32} {w1 : Int32} {w2 : Int32} {w3 : Int64} {w4 : Nat → Int32} {w5 : Nat → Int32} {w6 : Nat → Int64} {w7 : Nat → Int64} {w8 : Nat → Int64} {w9 : Nat → Int64} : (fun k => (sgX1_lay σ w0 w1 w2 w3 w4 w5 w6 w7 w8 w9).1 (6000 + 16 * k + 2)) = (fun k => σ.1 (6000 + 16 * k + 2)) := by
  funext k
  unfold sgX1_lay
  dsimp only [zI, zL, aI, aL]
  repeat rw [if_neg (by omega)]
theorem sgX1_lay_rpR3 {σ : Sto} {w0 : Int32} {w1 : Int32} {w2 : Int32} {w3 : Int64} {w4 : Nat → Int32} {w5 : Nat → Int32} {w6 : Nat → Int64} {w7 : Nat → Int64} {w8 : Nat → Int64} {w9 : Nat → Int64} : (fun k => (sgX1_lay σ w0 w1 w2 w3 w4 w5 w6 w7 w8 w9).1 (6000 + 16 * k + 3)) = (fun k => σ.1 (6000 + 16 * k + 3)) := by
  funext k
  unfold sgX1_lay
  dsimp only [zI, zL, aI, aL]
  repeat rw [if_neg (by omega)]
theorem sgX1_lay_rpR4 {σ : Sto} {w0 : Int32} {w1 : Int32} {w2 : Int32} {w3 : Int64} {w4 : Nat → Int32} {w5 : Nat → Int32} {w6 : Nat → Int64} {w7 : Nat → Int64} {w8 : Nat → Int64} {w9 : Nat → Int64} : (fun k => (sgX1_lay σ w0 w1 w2 w3 w4 w5 w6 w7 w8 w9).1 (6000 + 16 * k + 4)) = (fun k => σ.1 (6000 + 16 * k + 4)) := by
  funext k
  unfold sgX1_lay
  dsimp only [zI, zL, aI, aL]
  repeat rw [if_neg (by omega)]
theorem sgX1_lay_rpR5 {σ : Sto} {w0 : Int32} {w1 : Int32} {w2 : Int32} {w3 : Int64} {w4 : Nat → Int32} {w5 : Nat → Int32} {w6 : Nat → Int64} {w7 : Nat → Int64} {w8 : Nat → Int64} {w9 : Nat → Int64} : (fun k => (sgX1_lay σ w0 w1 w2 w3 w4 w5 w6 w7 w8 w9).1 (6000 + 16 * k + 5)) = (fun k => σ.1 (6000 + 16 * k + 5)) := by
  funext k
  unfold sgX1_lay
  dsimp only [zI, zL, aI, aL]
  repeat rw [if_neg (by omega)]
theorem sgX1_lay_rpR6 {σ : Sto} {w0 : Int32} {w1 : Int32} {w2 : Int32} {w3 : Int64} {w4 : Nat → Int32} {w5 : Nat → Int32} {w6 : Nat → Int64} {w7 : Nat → Int64} {w8 : Nat → Int64} {w9 : Nat → Int64} : (fun k => (sgX1_lay σ w0 w1 w2 w3 w4 w5 w6 w7 w8 w9).1 (6000 + 16 * k + 6)) = (fun k => σ.1 (6000 + 16 * k + 6)) := by
  funext k
  unfold sgX1_lay
  dsimp only [zI, zL, aI, aL]
  repeat rw [if_neg (by omega)]
theorem sgX1_lay_rpW0 {σ : Sto} {w0 : Int32} {w1 : Int32} {w2 : Int32} {w3 : Int64} {w4 : Nat → Int32} {w5 : Nat → Int32} {w6 : Nat → Int64} {w7 : Nat → Int64} {w8 : Nat → Int64} {w9 : Nat → Int64} : (fun k => (sgX1_lay σ w0 w1 w2 w3 w4 w5 w6 w7 w8 w9).1 (8000 + 16 * k + 0)) = (fun k => σ.1 (8000 + 16 * k + 0)) := by
  funext k
  unfold sgX1_lay
  dsimp only [zI, zL, aI, aL]
  repeat rw [if_neg (by omega)]
theorem sgX1_lay_rpW1 {σ : Sto} {w0 : Int32} {w1 : Int32} {w2 : Int32} {w3 : Int64} {w4 : Nat → Int32} {w5 : Nat → Int32} {w6 : Nat → Int64} {w7 : Nat → Int64} {w8 : Nat → Int64} {w9 : Nat → Int64} : (fun k => (sgX1_lay σ w0 w1 w2 w3 w4 w5 w6 w7 w8 w9).1 (8000 + 16 * k + 1)) = (fun k => σ.1 (8000 + 16 * k + 1)) := by
  funext k
  unfold sgX1_lay
  dsimp only [zI, zL, aI, aL]
  repeat rw [if_neg (by omega)]
theorem sgX1_lay_rpW2 {σ : Sto} {w0 : Int32} {w1 : Int32} {w2 : Int32} {w3 : Int64} {w4 : Nat → Int32} {w5 : Nat → Int32} {w6 : Nat → Int64} {w7 : Nat → Int64} {w8 : Nat → Int64} {w9 : Nat → Int64} : (fun k => (sgX1_lay σ w0 w1 w2 w3 w4 w5 w6 w7 w8 w9).1 (8000 + 16 * k + 2)) = (fun k => σ.1 (8000 + 16 * k + 2)) := by
  funext k
  unfold sgX1_lay
  dsimp only [zI, zL, aI, aL]
  repeat rw [if_neg (by omega)]
theorem sgX1_lay_rgG0 {σ : Sto} {w0 : Int32} {w1 : Int32} {w2 : Int32} {w3 : Int64} {w4 : Nat → Int32} {w5 : Nat → Int32} {w6 : Nat → Int64} {w7 : Nat → Int64} {w8 : Nat → Int64} {w9 : Nat → Int64} : (fun k => (sgX1_lay σ w0 w1 w2 w3 w4 w5 w6 w7 w8 w9).2.2.1 (4000 + 16 * k)) = (fun k => σ.2.2.1 (4000 + 16 * k)) := by
  funext k
  unfold sgX1_lay
  dsimp only [zI, zL, aI, aL]
  repeat rw [if_neg (by omega)]
abbrev rmX1_lay : Room := { frames := 48, cells := 0, slots := 0, locals := 1316 }
set_option maxHeartbeats 4000000 in
theorem wkX1_lay {w_zI1018 : Int32} {w_zI1062 : Int32} {w_zI1082 : Int32} {w_zL1052 : Int64} {w_aI1108 : Nat → Int32} {w_aI1162 : Nat → Int32} {w_aL1140 : Nat → Int64} {w_aL1141 : Nat → Int64} {w_aL1150 : Nat → Int64} {w_aL1152 : Nat → Int64} (E : EN p s m args meth c0 RX1 cX1_lay 2 (Option.none : Option Jvm.ClassFile.FieldType)) (hX : KX D G ad A s s.heap) (hD : XD dsc nr nw nu) (hA : ∀ q, PA dsc ad s.heap.size q → A q) (hf : xo_X1_lay (σ.1 1018) (σ.1 1062) (σ.1 1082) (σ.1 2008) (σ.1 2009) (σ.1 2012) (σ.1 2013) (σ.1 2027) (σ.1 2032) (σ.2.1 1052) (σ.2.1 1061) (σ.2.1 1081) (σ.2.2.1 1108) (σ.2.2.1 1162) (σ.2.2.1 1170) (σ.2.2.1 2036) (σ.2.2.1 2037) (σ.2.2.1 2042) (σ.2.2.1 2043) (σ.2.2.2.1 1140) (σ.2.2.2.1 1141) (σ.2.2.2.1 1150) (σ.2.2.2.1 1152) nr nw (fun k => σ.1 (6000 + 16 * k + 2)) (fun k => σ.1 (6000 + 16 * k + 3)) (fun k => σ.1 (6000 + 16 * k + 4)) (fun k => σ.1 (6000 + 16 * k + 5)) (fun k => σ.1 (6000 + 16 * k + 6)) (fun k => σ.1 (8000 + 16 * k + 0)) (fun k => σ.1 (8000 + 16 * k + 1)) (fun k => σ.1 (8000 + 16 * k + 2)) (fun k => σ.2.2.1 (4000 + 16 * k)) = some (w_zI1018, w_zI1062, w_zI1082, w_zL1052, w_aI1108, w_aI1162, w_aL1140, w_aL1141, w_aL1150, w_aL1152)) (hQ : Q = MQ below (va_G1 none (fun t => PIC D clsA G dsc ad (sgX1_lay σ w_zI1018 w_zI1062 w_zI1082 w_zL1052 w_aI1108 w_aI1162 w_aL1140 w_aL1141 w_aL1150 w_aL1152) t.heap) A) args s 0 0 A) (hP : PIC D clsA G dsc ad σ H) (hS : va_S A s.heap H locs) (hl : lv_has ls 2 [(0, .ref (ad 1000))]) : W p l e rmX1_lay s m args below meth c0 H locs 0 0 Q (F0 m 0 ls []) := by
  obtain ⟨⟨hx, hb, hml, hown, hts⟩, hr, hlk⟩ := id E
  have hP := hP.to (sgX1_lay_self σ).symm
  unfold xo_X1_lay at hf
  refine lv_aload_n hx hb dX1_lay_0 rfl (lv_at hl 0 rfl) ?_
  refine gx_X1_172_1000 (v := (σ.1 1018)) E hX hD hP sgX1_lay_rzI1018 dX1_lay_1 ?_
  refine lv_if_eq (tgt := 8) hx hb dX1_lay_4 (by decide) (fun c1 => ?_) (fun c1 => ?_)
  · have hf := ifT c1 hf
    refine lv_aload_n hx hb dX1_lay_8 rfl (lv_at hl 0 rfl) ?_
    refine lv_iconst hx hb dX1_lay_9 ic_1 ?_
    refine ux_X1_172_1000 E hX hD hP hS (hA _ (PA_c (hD.1 _ _ dX_1000))) rfl rfl sgX1_lay_zI1018 dX1_lay_10 (fun H locs hP hS => ?_)
    refine lv_aload_n hx hb dX1_lay_13 rfl (lv_at hl 0 rfl) ?_
    refine gx_X1_40_1000 E hX hD hP dX1_lay_14 ?_
    refine lv_aload_n hx hb dX1_lay_17 rfl (lv_at hl 0 rfl) ?_
    refine gx_X1_33_1000 E hX hD hP dX1_lay_18 ?_
    refine lv_iconst hx hb dX1_lay_21 ic_m1 ?_
    refine lv_iconst hx hb dX1_lay_22 ic_0 ?_
    obtain ⟨⟨z2, a3, a4⟩, u5, hf⟩ := bdP hf
    dsimp only at hf
    refine cx_X1_227_X4_lay_W E hX hD hP hS hA (kxX4_lay_W l D G hD sgX1_lay_rzI2009 sgX1_lay_rzI2027 sgX1_lay_rzL1052 sgX1_lay_raI1170 sgX1_lay_raI2036 sgX1_lay_raI2042 sgX1_lay_raL1140 sgX1_lay_raL1141 rfl sgX1_lay_rpR3 sgX1_lay_rpR4 u5) ⟨rfl, rfl⟩ ⟨Nat.le_of_ble_eq_true rfl, Nat.le_of_ble_eq_true rfl⟩ ⟨Nat.zero_le _, Nat.zero_le _⟩ hl.1 (Nat.le_of_ble_eq_true rfl) dX1_lay_23 (fun H locs hP hS => ?_)
    rw [sgX1_lay_zL1052, sgX1_lay_aL1140, sgX1_lay_aL1141] at hP
    refine lv_aload_n hx hb dX1_lay_26 rfl (lv_at hl 0 rfl) ?_
    refine gx_X1_33_1000 E hX hD hP dX1_lay_27 ?_
    obtain ⟨v6, u7, hf⟩ := bdP hf
    refine cx_X1_231_X3_isWhole E hX hD hP hS hA (kxX3_isWhole l D G hD sgX1_lay_rzI2012 sgX1_lay_rzI2013 u7) ⟨rfl, rfl⟩ ⟨Nat.le_of_ble_eq_true rfl, Nat.le_of_ble_eq_true rfl⟩ ⟨Nat.zero_le _, Nat.zero_le _⟩ hl.1 (Nat.le_of_ble_eq_true rfl) dX1_lay_30 (fun H locs hP hS => ?_)
    refine lv_if_ne (tgt := 37) hx hb dX1_lay_33 (by decide) (fun c8 => ?_) (fun c8 => ?_)
    · have hf := ifF c8 hf
      refine lv_aload_n hx hb dX1_lay_37 rfl (lv_at hl 0 rfl) ?_
      refine gx_X1_53_1000 E hX hD hP dX1_lay_38 ?_
      refine lv_aload_n hx hb dX1_lay_41 rfl (lv_at hl 0 rfl) ?_
      refine gx_X1_40_1000 E hX hD hP dX1_lay_42 ?_
      obtain ⟨⟨z9, a10⟩, u11, hf⟩ := bdP hf
      dsimp only at hf
      refine cx_X1_235_X5_lay_TB_W E hX hD hP hS hA (kxX5_lay_TB_W l D G hD sgX1_lay_rzI1062 sgX1_lay_rzI2008 sgX1_lay_rzI2013 sgX1_lay_rzI2027 sgX1_lay_rzI2032 sgX1_lay_rzL1061 sgX1_lay_raI1170 sgX1_lay_raI2037 sgX1_lay_raI2043 sgX1_lay_raL1141 sgX1_lay_raL1150 rfl rfl sgX1_lay_rpR2 sgX1_lay_rpR5 sgX1_lay_rpR6 sgX1_lay_rpW0 sgX1_lay_rpW1 sgX1_lay_rpW2 sgX1_lay_rgG0 u11) ⟨rfl, rfl⟩ ⟨Nat.le_of_ble_eq_true rfl, Nat.le_of_ble_eq_true rfl⟩ ⟨Nat.zero_le _, Nat.zero_le _⟩ hl.1 (Nat.le_of_ble_eq_true rfl) dX1_lay_45 (fun H locs hP hS => ?_)
      rw [sgX1_lay_zI1062, sgX1_lay_aL1150] at hP
      refine lv_aload_n hx hb dX1_lay_48 rfl (lv_at hl 0 rfl) ?_
      refine gx_X1_63_1000 E hX hD hP dX1_lay_49 ?_
      refine lv_aload_n hx hb dX1_lay_52 rfl (lv_at hl 0 rfl) ?_
      refine gx_X1_40_1000 E hX hD hP dX1_lay_53 ?_
      obtain ⟨⟨z12, a13⟩, u14, hf⟩ := bdP hf
      dsimp only at hf
      refine cx_X1_238_X5_lay_TS_W E hX hD hP hS hA (kxX5_lay_TS_W l D G hD sgX1_lay_rzI1082 sgX1_lay_rzI2008 sgX1_lay_rzI2013 sgX1_lay_rzI2027 sgX1_lay_rzI2032 sgX1_lay_rzL1081 sgX1_lay_raI1170 sgX1_lay_raI2037 sgX1_lay_raI2043 sgX1_lay_raL1141 sgX1_lay_raL1152 rfl rfl sgX1_lay_rpR2 sgX1_lay_rpR5 sgX1_lay_rpR6 sgX1_lay_rpW0 sgX1_lay_rpW1 sgX1_lay_rpW2 sgX1_lay_rgG0 u14) ⟨rfl, rfl⟩ ⟨Nat.le_of_ble_eq_true rfl, Nat.le_of_ble_eq_true rfl⟩ ⟨Nat.zero_le _, Nat.zero_le _⟩ hl.1 (Nat.le_of_ble_eq_true rfl) dX1_lay_56 (fun H locs hP hS => ?_)
      rw [sgX1_lay_zI1082, sgX1_lay_aL1152] at hP
      refine lv_iconst hx hb dX1_lay_59 ic_0 ?_
      refine lv_istore_n (lv' := [(1, .int 0), (0, .ref (ad 1000))]) hx hb dX1_lay_60 rfl hl (by decide) rfl (fun ls hl => ?_)
      have LP61 : ∀ (st61 : Int32 × (Nat → Int32) × (Nat → Int32)) (ex61 : ((Nat → Int32) × (Nat → Int32))), loop (xo_X1_lay_L61 (σ.1 2008) (σ.1 2012) (σ.1 2013) (σ.1 2027) (σ.2.2.1 1170) nr (fun k => σ.1 (6000 + 16 * k + 2)) (fun k => σ.1 (6000 + 16 * k + 5)) (fun k => σ.1 (6000 + 16 * k + 6)) (fun k => σ.2.2.1 (4000 + 16 * k))) st61 = some ex61 → ∀ (H : Heap) (locs : List Loc), PIC D clsA G dsc ad (sgX1_lay σ 1 z9 z12 z2 (st61.2.1) (st61.2.2) a3 a4 a10 a13) H → va_S A s.heap H locs → ∀ (ls : Array Slot), lv_has ls 2 [(0, .ref (ad 1000)), (1, .int (st61.1))] → (∀ (a26 : Nat → Int32) (a27 : Nat → Int32), ex61 = (a26, a27) → ∀ (H : Heap) (locs : List Loc), PIC D clsA G dsc ad (sgX1_lay σ 1 z9 z12 z2 a26 a27 a3 a4 a10 a13) H → va_S A s.heap H locs → ∀ (ls : Array Slot), lv_has ls 2 [] → W p l e rmX1_lay s m args below meth c0 H locs 0 0 Q (F0 m 89 ls [])) → W p l e rmX1_lay s m args below meth c0 H locs 0 0 Q (F0 m 61 ls []) := by
        refine loop_P (fun st61 ex61 o61 hf ih61 hx61 => ?_)
        obtain ⟨y15, a16, a17⟩ := st61
        intro H locs (hP : PIC D clsA G dsc ad (sgX1_lay σ 1 z9 z12 z2 a16 a17 a3 a4 a10 a13) H) hS ls (hl : lv_has ls 2 [(0, .ref (ad 1000)), (1, .int y15)]) KE61_0
        dsimp only [xo_X1_lay_L61] at hf
        refine lv_iload_n hx hb dX1_lay_61 rfl (lv_at hl 1 rfl) ?_
        refine lv_aload_n hx hb dX1_lay_62 rfl (lv_at hl 0 rfl) ?_
        refine gx_X1_33_1000 E hX hD hP dX1_lay_63 ?_
        obtain ⟨v18, u19, hf⟩ := bdP hf
        refine cx_X1_239_X3_worlds E hX hD hP hS hA (kxX3_worlds l D G hD sgX1_lay_rzI2027 u19) ⟨rfl, rfl⟩ ⟨Nat.le_of_ble_eq_true rfl, Nat.le_of_ble_eq_true rfl⟩ ⟨Nat.zero_le _, Nat.zero_le _⟩ hl.1 (Nat.le_of_ble_eq_true rfl) dX1_lay_66 (fun H locs hP hS => ?_)
        refine lv_icmp_ge (tgt := 89) hx hb dX1_lay_69 (by decide) (fun c20 => ?_) (fun c20 => ?_)
        · have hf := ifT c20 hf
          exact KE61_0 _ _ (hx61 _ (Option.some.inj hf).symm).symm H locs hP hS ls (lv_sub hl [] rfl)
        · have hf := ifF c20 hf
          refine lv_aload_n hx hb dX1_lay_72 rfl (lv_at hl 0 rfl) ?_
          refine gx_X1_47_1000 E hX hD hP dX1_lay_73 ?_
          refine lv_iload_n hx hb dX1_lay_76 rfl (lv_at hl 1 rfl) ?_
          refine lv_aload_n hx hb dX1_lay_77 rfl (lv_at hl 0 rfl) ?_
          refine lv_iload_n hx hb dX1_lay_78 rfl (lv_at hl 1 rfl) ?_
          obtain ⟨⟨v21, a22⟩, u23, hf⟩ := bdP hf
          dsimp only at hf
          refine cx_X1_242_X1_hoursOf E hX hD hP hS hA (kxX1_hoursOf l D G hD sgX1_lay_rzI2008 sgX1_lay_rzI2012 sgX1_lay_rzI2013 sgX1_lay_rzI2027 sgX1_lay_raI1162 sgX1_lay_raI1170 rfl sgX1_lay_rpR2 sgX1_lay_rpR5 sgX1_lay_rpR6 sgX1_lay_rgG0 u23) ⟨rfl, rfl⟩ ⟨Nat.le_of_ble_eq_true rfl, Nat.le_of_ble_eq_true rfl⟩ ⟨Nat.zero_le _, Nat.zero_le _⟩ hl.1 (Nat.le_of_ble_eq_true rfl) dX1_lay_79 (fun H locs hP hS => ?_)
          rw [sgX1_lay_aI1162] at hP
          obtain ⟨a24, ha24, hf⟩ := bdP hf
          refine p_iast hx hb hX.1 hP hS (hA _ (PA_c (hD.1 _ _ dX_1108))) (hD.1 _ _ dX_1108) sgX1_lay_raI1108 ha24 sgX1_lay_aI1108 dX1_lay_82 (fun H locs hP hS => ?_)
          obtain ⟨v25, hv25, hf⟩ := bdP hf
          refine lv_iinc (v := v25) (lv' := [(1, .int v25), (0, .ref (ad 1000))]) hx hb dX1_lay_83 hl (k := 1) rfl (Option.some.inj hv25) (by decide) rfl (fun ls hl => ?_)
          refine lv_goto (tgt := 61) hx hb dX1_lay_86 (by decide) ?_
          exact ih61 _ (Option.some.inj hf).symm H locs hP hS ls (lv_sub hl [1, 0] rfl) KE61_0
      obtain ⟨ex61, hlp61, hf⟩ := bdP hf
      refine LP61 (0, (σ.2.2.1 1108), (σ.2.2.1 1162)) ex61 hlp61 H locs hP hS ls (lv_sub hl [1, 0] rfl) ?_
      intro a26 a27 hex61 H locs hP hS ls hl
      subst ex61
      dsimp only at hf
      cases hf
      rw [hQ]; exact g_vret hx hb hr hlk hP hS dX1_lay_89
    · have hf := ifT c8 hf
      cases hf
      rw [hQ]; exact g_vret hx hb hr hlk hP hS dX1_lay_36
  · have hf := ifF c1 hf
    cases hf
    rw [hQ]; exact g_vret hx hb hr hlk hP hS dX1_lay_7
theorem kxX1_lay (l : Launch) (D : va_G) (G : Nat → ClassId) {dsc : Nat → Option Dsc} {ad : Nat → Nat} {σ : Sto} {nr nw nu : Nat} (hD : XD dsc nr nw nu) {w_zI1018 : Int32} {w_zI1062 : Int32} {w_zI1082 : Int32} {w_zL1052 : Int64} {w_aI1108 : Nat → Int32} {w_aI1162 : Nat → Int32} {w_aL1140 : Nat → Int64} {w_aL1141 : Nat → Int64} {w_aL1150 : Nat → Int64} {w_aL1152 : Nat → Int64} {z_X_isLaid : Int32} (e_zI1018 : σ.1 1018 = z_X_isLaid) {z_TB_by : Int32} (e_zI1062 : σ.1 1062 = z_TB_by) {z_TS_by : Int32} (e_zI1082 : σ.1 1082 = z_TS_by) {z_L_places : Int32} (e_zI2008 : σ.1 2008 = z_L_places) {z_L_causes : Int32} (e_zI2009 : σ.1 2009 = z_L_causes) {z_L_from : Int32} (e_zI2012 : σ.1 2012 = z_L_from) {z_L_to : Int32} (e_zI2013 : σ.1 2013 = z_L_to) {z_Ld_size : Int32} (e_zI2027 : σ.1 2027 = z_Ld_size) {z_Lw_size : Int32} (e_zI2032 : σ.1 2032 = z_Lw_size) {z_W_all : Int64} (e_zL1052 : σ.2.1 1052 = z_W_all) {z_TB_none : Int64} (e_zL1061 : σ.2.1 1061 = z_TB_none) {z_TS_none : Int64} (e_zL1081 : σ.2.1 1081 = z_TS_none) {a_X_knowing : Nat → Int32} (e_aI1108 : σ.2.2.1 1108 = a_X_knowing) {a_p3_far : Nat → Int32} (e_aI1162 : σ.2.2.1 1162 = a_p3_far) {a_UNIT : Nat → Int32} (e_aI1170 : σ.2.2.1 1170 = a_UNIT) {a_Ld_data : Nat → Int32} (e_aI2036 : σ.2.2.1 2036 = a_Ld_data) {a_Lw_data : Nat → Int32} (e_aI2037 : σ.2.2.1 2037 = a_Lw_data) {a_L_comes : Nat → Int32} (e_aI2042 : σ.2.2.1 2042 = a_L_comes) {a_L_seen : Nat → Int32} (e_aI2043 : σ.2.2.1 2043 = a_L_seen) {a_W_world : Nat → Int64} (e_aL1140 : σ.2.2.2.1 1140 = a_W_world) {a_W_likely : Nat → Int64} (e_aL1141 : σ.2.2.2.1 1141 = a_W_likely) {a_TB_value : Nat → Int64} (e_aL1150 : σ.2.2.2.1 1150 = a_TB_value) {a_TS_value : Nat → Int64} (e_aL1152 : σ.2.2.2.1 1152 = a_TS_value) {n_r : Nat} (e_nN0 : nr = n_r) {n_w : Nat} (e_nN1 : nw = n_w) {p_road_hours : Nat → Int32} (e_pR2 : (fun k => σ.1 (6000 + 16 * k + 2)) = p_road_hours) {p_road_doubt : Nat → Int32} (e_pR3 : (fun k => σ.1 (6000 + 16 * k + 3)) = p_road_doubt) {p_road_cause : Nat → Int32} (e_pR4 : (fun k => σ.1 (6000 + 16 * k + 4)) = p_road_cause) {p_road_wait : Nat → Int32} (e_pR5 : (fun k => σ.1 (6000 + 16 * k + 5)) = p_road_wait) {p_road_number : Nat → Int32} (e_pR6 : (fun k => σ.1 (6000 + 16 * k + 6)) = p_road_number) {p_word_place : Nat → Int32} (e_pW0 : (fun k => σ.1 (8000 + 16 * k + 0)) = p_word_place) {p_word_road : Nat → Int32} (e_pW1 : (fun k => σ.1 (8000 + 16 * k + 1)) = p_word_road) {p_word_hours : Nat → Int32} (e_pW2 : (fun k => σ.1 (8000 + 16 * k + 2)) = p_word_hours) {g_grid : Nat → Nat → Int32} (e_gG0 : (fun k => σ.2.2.1 (4000 + 16 * k)) = g_grid) (hf : xo_X1_lay z_X_isLaid z_TB_by z_TS_by z_L_places z_L_causes z_L_from z_L_to z_Ld_size z_Lw_size z_W_all z_TB_none z_TS_none a_X_knowing a_p3_far a_UNIT a_Ld_data a_Lw_data a_L_comes a_L_seen a_W_world a_W_likely a_TB_value a_TS_value n_r n_w p_road_hours p_road_doubt p_road_cause p_road_wait p_road_number p_word_place p_word_road p_word_hours g_grid = some (w_zI1018, w_zI1062, w_zI1082, w_zL1052, w_aI1108, w_aI1162, w_aL1140, w_aL1141, w_aL1150, w_aL1152)) : CtG l D G dsc ad yX1_lay (ws_ yX1_lay cX1_lay 2 (Option.none : Option Jvm.ClassFile.FieldType)) rmX1_lay [.ref (ad 1000)] σ none (aL (aL (aL (aL (aI (aI (zL (zI (zI (zI σ 1018 w_zI1018) 1062 w_zI1062) 1082 w_zI1082) 1052 w_zL1052) 1108 w_aI1108) 1162 w_aI1162) 1140 w_aL1140) 1141 w_aL1141) 1150 w_aL1150) 1152 w_aL1152) := by
  subst e_zI1018
  subst e_zI1062
  subst e_zI1082
  subst e_zI2008
  subst e_zI2009
  subst e_zI2012
  subst e_zI2013
  subst e_zI2027
  subst e_zI2032
  subst e_zL1052
  subst e_zL1061
  subst e_zL1081
  subst e_aI1108
  subst e_aI1162
  subst e_aI1170
  subst e_aI2036
  subst e_aI2037
  subst e_aI2042
  subst e_aI2043
  subst e_aL1140
  subst e_aL1141
  subst e_aL1150
  subst e_aL1152
  subst e_nN0
  subst e_nN1
  subst e_pR2
  subst e_pR3
  subst e_pR4
  subst e_pR5
  subst e_pR6
  subst e_pW0
  subst e_pW1
  subst e_pW2
  subst e_gG0
  exact p_ctG (by decide +kernel) (Nat.le_of_ble_eq_true rfl) (fun p e s m below meth c0 ls A E hP hX hA hS hl => wkX1_lay E hX hD hA hf rfl hP hS hl)
/-! X1_cell (III)I -/
abbrev rmX1_cell : Room := { frames := 0, cells := 0, slots := 0, locals := 0 }
set_option maxHeartbeats 4000000 in
theorem wkX1_cell {x0 : Int32} {x1 : Int32} {x2 : Int32} {r_ : Int32} (E : EN p s m args meth c0 RX1 cX1_cell 3 (Option.some Jvm.ClassFile.FieldType.int)) (hX : KX D G ad A s s.heap) (hD : XD dsc nr nw nu) (hA : ∀ q, PA dsc ad s.heap.size q → A q) (hf : xo_X1_cell x0 x1 x2 = some r_) (hQ : Q = MQ below (va_G1 (some (.int r_)) (fun t => PIC D clsA G dsc ad σ t.heap) A) args s 0 0 A) (hP : PIC D clsA G dsc ad σ H) (hS : va_S A s.heap H locs) (hl : lv_has ls 3 [(0, .int x0), (1, .int x1), (2, .int x2)]) : W p l e rmX1_cell s m args below meth c0 H locs 0 0 Q (F0 m 0 ls []) := by
  obtain ⟨⟨hx, hb, hml, hown, hts⟩, hr, hlk⟩ := id E
  unfold xo_X1_cell at hf
  refine lv_bipush hx hb dX1_cell_0 bp_49 ?_
  refine lv_bipush hx hb dX1_cell_2 bp_10 ?_
  refine lv_iload_n hx hb dX1_cell_4 rfl (lv_at hl 1 rfl) ?_
  refine lv_imul hx hb dX1_cell_5 ?_
  refine lv_iload_n hx hb dX1_cell_6 rfl (lv_at hl 0 rfl) ?_
  refine lv_iadd hx hb dX1_cell_7 ?_
  refine lv_imul hx hb dX1_cell_8 ?_
  refine lv_iload_n hx hb dX1_cell_9 rfl (lv_at hl 2 rfl) ?_
  refine lv_iadd hx hb dX1_cell_10 ?_
  cases hf
  rw [hQ]; exact g_iret hx hb hr hlk hP hS dX1_cell_11
theorem kxX1_cell (l : Launch) (D : va_G) (G : Nat → ClassId) {dsc : Nat → Option Dsc} {ad : Nat → Nat} {σ : Sto} {nr nw nu : Nat} (hD : XD dsc nr nw nu) {x0 : Int32} {x1 : Int32} {x2 : Int32} {r_ : Int32} (hf : xo_X1_cell x0 x1 x2 = some r_) : CtG l D G dsc ad yX1_cell (ws_ yX1_cell cX1_cell 3 (Option.some Jvm.ClassFile.FieldType.int)) rmX1_cell [.int x0, .int x1, .int x2] σ (some (.int r_)) σ := by
  exact p_ctG (by decide +kernel) (Nat.le_of_ble_eq_true rfl) (fun p e s m below meth c0 ls A E hP hX hA hS hl => wkX1_cell E hX hD hA hf rfl hP hS hl)
theorem gx_X1_284_1050 (E : EN p s m args meth c0 RX1 cc nL ret) (hX : KX D G ad A s s.heap) (hD : XD dsc nr nw nu) (hP : PIC D clsA G dsc ad σ H) (hdg : decode cc pc = .ok (.getfield 284, 3)) (kk : W p l e R s m args below meth c0 H locs cells slots Q (F0 m (pc + 3) ls (.ref (ad 1141) :: rest))) : W p l e R s m args below meth c0 H locs cells slots Q (F0 m pc ls (.ref (ad 1050) :: rest)) :=
  p_getN E.1.1 E.1.2.1 E.1.2.2.2.2 in_X4 E.1.2.2.2.1 hX.1 hP (hD.1 _ _ dX_1050) rfl 1 (by decide) (hX.2.1.1 _ q330 rfl) (fun _ h => h) rfl rfl hdg kk
theorem cx_X1_408_J17_numberOfTrailingZeros {rm : Room} {σ1 : Sto} {x0 : Int32} {r : Int32} (E : EN p s m args meth c0 RX1 cc nL ret) (hX : KX D G ad A s s.heap) (hD : XD dsc nr nw nu) (hP : PIC D clsA G dsc ad σ H) (hS : va_S A s.heap H locs) (hA : ∀ q, PA dsc ad s.heap.size q → A q) (hM : CtG l D G dsc ad yJ17_numberOfTrailingZeros (ws_ yJ17_numberOfTrailingZeros cJ17_numberOfTrailingZeros 2 (Option.some Jvm.ClassFile.FieldType.int)) rm [.int x0] σ (some (.int r)) σ1) (hz : rm.cells = 0 ∧ rm.slots = 0) (hR : rm.frames + 1 ≤ R.frames ∧ 8 + (2 + 11) + rm.locals ≤ R.locals) (hcs : cells ≤ R.cells ∧ slots ≤ R.slots) (hsz : ls.size = nL) (hW : (rest.map fun v => v.category).sum ≤ 8) (hdg : decode cc pc = .ok (.invokestatic 408, 3)) (kk : ∀ (H1 : Heap) (locs1 : List Loc), PIC D clsA G dsc ad σ1 H1 → va_S A s.heap H1 locs1 → W p l e R s m args below meth c0 H1 locs1 cells slots Q (F0 m (pc + 3) ls (.int r :: rest))) : W p l e R s m args below meth c0 H locs cells slots Q (F0 m pc ls (.int x0 :: rest)) :=
  p_gS (As := [.int x0]) (rest := rest) E.1 hX hP hS hA hM (va_cwS 1 E.1.2.2.2.2 (lw_S q1466 q1130 q161 q1131) rfl hz.1 hz.2 (by decide +kernel) hR) rfl hsz rfl hW hdg hcs kk
theorem cx_X1_390_X1_over {rm : Room} {σ1 : Sto} {x1 : Int32} {x2 : Int32} {x3 : Int32} {x4 : Int32} {r : Int64} (E : EN p s m args meth c0 RX1 cc nL ret) (hX : KX D G ad A s s.heap) (hD : XD dsc nr nw nu) (hP : PIC D clsA G dsc ad σ H) (hS : va_S A s.heap H locs) (hA : ∀ q, PA dsc ad s.heap.size q → A q) (hM : CtG l D G dsc ad yX1_over (ws_ yX1_over cX1_over 7 (Option.some Jvm.ClassFile.FieldType.long)) rm [.ref (ad 1000), .int x1, .int x2, .int x3, .int x4] σ (some (.long r)) σ1) (hz : rm.cells = 0 ∧ rm.slots = 0) (hR : rm.frames + 1 ≤ R.frames ∧ 8 + (7 + 11) + rm.locals ≤ R.locals) (hcs : cells ≤ R.cells ∧ slots ≤ R.slots) (hsz : ls.size = nL) (hW : (rest.map fun v => v.category).sum ≤ 8) (hdg : decode cc pc = .ok (.invokevirtual 390, 3)) (kk : ∀ (H1 : Heap) (locs1 : List Loc), PIC D clsA G dsc ad σ1 H1 → va_S A s.heap H1 locs1 → W p l e R s m args below meth c0 H1 locs1 cells slots Q (F0 m (pc + 3) ls (.long r :: rest))) : W p l e R s m args below meth c0 H locs cells slots Q (F0 m pc ls (.int x4 :: .int x3 :: .int x2 :: .int x1 :: .ref (ad 1000) :: rest)) :=
  p_gV (As := [.int x1, .int x2, .int x3, .int x4]) (rest := rest) E.1 hX hP hS hA hM (cwV 4 E.1.2.2.2.2 (lw_V q1462 q1464 qs38 q124 q1465) rfl hz.1 hz.2 (by decide +kernel) hR) (hD.1 _ _ dX_1000) rfl rfl rfl hsz rfl hW hdg hcs kk
theorem gx_X1_124_1000 (E : EN p s m args meth c0 RX1 cc nL ret) (hX : KX D G ad A s s.heap) (hD : XD dsc nr nw nu) (hP : PIC D clsA G dsc ad σ H) (hdg : decode cc pc = .ok (.getfield 124, 3)) (kk : W p l e R s m args below meth c0 H locs cells slots Q (F0 m (pc + 3) ls (.ref (ad 1126) :: rest))) : W p l e R s m args below meth c0 H locs cells slots Q (F0 m pc ls (.ref (ad 1000) :: rest)) :=
  p_get E.1.1 E.1.2.1 E.1.2.2.2.2 in_X1 E.1.2.2.2.1 hX.1 hP (hD.1 _ _ dX_1000) rfl 26 (by decide) (E.1.2.2.2.2 _ q538) (fun _ h => h) rfl rfl hdg kk
theorem cx_X1_383_X1_cell {rm : Room} {σ1 : Sto} {x0 : Int32} {x1 : Int32} {x2 : Int32} {r : Int32} (E : EN p s m args meth c0 RX1 cc nL ret) (hX : KX D G ad A s s.heap) (hD : XD dsc nr nw nu) (hP : PIC D clsA G dsc ad σ H) (hS : va_S A s.heap H locs) (hA : ∀ q, PA dsc ad s.heap.size q → A q) (hM : CtG l D G dsc ad yX1_cell (ws_ yX1_cell cX1_cell 3 (Option.some Jvm.ClassFile.FieldType.int)) rm [.int x0, .int x1, .int x2] σ (some (.int r)) σ1) (hz : rm.cells = 0 ∧ rm.slots = 0) (hR : rm.frames + 1 ≤ R.frames ∧ 8 + (3 + 11) + rm.locals ≤ R.locals) (hcs : cells ≤ R.cells ∧ slots ≤ R.slots) (hsz : ls.size = nL) (hW : (rest.map fun v => v.category).sum ≤ 8) (hdg : decode cc pc = .ok (.invokestatic 383, 3)) (kk : ∀ (H1 : Heap) (locs1 : List Loc), PIC D clsA G dsc ad σ1 H1 → va_S A s.heap H1 locs1 → W p l e R s m args below meth c0 H1 locs1 cells slots Q (F0 m (pc + 3) ls (.int r :: rest))) : W p l e R s m args below meth c0 H locs cells slots Q (F0 m pc ls (.int x2 :: .int x1 :: .int x0 :: rest)) :=
  p_gS (As := [.int x0, .int x1, .int x2]) (rest := rest) E.1 hX hP hS hA hM (va_cwS 3 E.1.2.2.2.2 (lw_S q1455 q1456 q124 q1457) rfl hz.1 hz.2 (by decide +kernel) hR) rfl hsz rfl hW hdg hcs kk
abbrev rmG_O (d : Nat) : Room := { frames := 1 + d, cells := 0, slots := 0, locals := 22 + d * 26 }
/-! X1_over (IIII)J -/
abbrev rmX1_over : Room := rmG_O 10
set_option maxHeartbeats 4000000 in
theorem wkX1_over {x1 : Int32} {x2 : Int32} {x3 : Int32} {x4 : Int32} {r_ : Int64} {d : Nat} {f_X1_over : Int32 → Int32 → Int32 → Int32 → Option (Int64)} (hrec_X1_over : ∀ (σ1 : Sto) {x1 : Int32} {x2 : Int32} {x3 : Int32} {x4 : Int32} {r_ : Int64} (_ : σ1.1 2013 = (σ.1 2013)) (_ : σ1.2.2.1 1170 = (σ.2.2.1 1170)) (_ : σ1.2.2.2.1 1126 = (σ.2.2.2.1 1126)) (_ : σ1.2.2.2.1 1141 = (σ.2.2.2.1 1141)), f_X1_over x1 x2 x3 x4 = some r_ → CtG l D G dsc ad yX1_over (ws_ yX1_over cX1_over 7 (Option.some Jvm.ClassFile.FieldType.long)) (rmG_O d) [.ref (ad 1000), .int x1, .int x2, .int x3, .int x4] σ1 (some (.long r_)) σ1) (E : EN p s m args meth c0 RX1 cX1_over 7 (Option.some Jvm.ClassFile.FieldType.long)) (hX : KX D G ad A s s.heap) (hD : XD dsc nr nw nu) (hA : ∀ q, PA dsc ad s.heap.size q → A q) (hf : xo_X1_over_B f_X1_over (σ.1 2013) (σ.2.2.1 1170) (σ.2.2.2.1 1126) (σ.2.2.2.1 1141) x1 x2 x3 x4 = some r_) (hQ : Q = MQ below (va_G1 (some (.long r_)) (fun t => PIC D clsA G dsc ad σ t.heap) A) args s 0 0 A) (hP : PIC D clsA G dsc ad σ H) (hS : va_S A s.heap H locs) (hl : lv_has ls 7 [(0, .ref (ad 1000)), (1, .int x1), (2, .int x2), (3, .int x3), (4, .int x4)]) : W p l e (rmG_O (d + 1)) s m args below meth c0 H locs 0 0 Q (F0 m 0 ls []) := by
  obtain ⟨⟨hx, hb, hml, hown, hts⟩, hr, hlk⟩ := id E
  unfold xo_X1_over_B at hf
  refine lv_aload_n hx hb dX1_over_0 rfl (lv_at hl 0 rfl) ?_
  refine gx_X1_40_1000 E hX hD hP dX1_over_1 ?_
  refine gx_X1_284_1050 E hX hD hP dX1_over_4 ?_
  refine lv_iload_n hx hb dX1_over_7 rfl (lv_at hl 3 rfl) ?_
  obtain ⟨v1, hv1, hf⟩ := bdP hf
  refine p_lald hx hb hX.1 hP (hD.1 _ _ dX_1141) rfl hv1 dX1_over_8 ?_
  refine lv_lconst hx hb dX1_over_9 lc_0 ?_
  refine W.lcmp hx hb dX1_over_10 ?_
  refine lv_if_ne (tgt := 16) hx hb dX1_over_11 (by decide) (fun c2 => ?_) (fun c2 => ?_)
  · have hf := ifF (mt (lgc_eq _ _).mpr c2) hf
    refine lv_iload_n hx hb dX1_over_16 rfl (lv_at hl 2 rfl) ?_
    refine lv_aload_n hx hb dX1_over_17 rfl (lv_at hl 0 rfl) ?_
    refine gx_X1_33_1000 E hX hD hP dX1_over_18 ?_
    refine gx_X1_256_2000 (v := (σ.1 2013)) E hX hD hP rfl dX1_over_21 ?_
    refine lv_icmp_ne (tgt := 37) hx hb dX1_over_24 (by decide) (fun c3 => ?_) (fun c3 => ?_)
    · have hf := ifF c3 hf
      refine lv_iload_n hx hb dX1_over_37 rfl (lv_at hl 1 rfl) ?_
      refine lv_if_ne (tgt := 54) hx hb dX1_over_38 (by decide) (fun c4 => ?_) (fun c4 => ?_)
      · have hf := ifF c4 hf
        refine lv_iload_n hx hb dX1_over_54 rfl (lv_at hl 1 rfl) ?_
        obtain ⟨v5, u6, hf⟩ := bdP hf
        refine cx_X1_408_J17_numberOfTrailingZeros E hX hD hP hS hA (kxJ17_numberOfTrailingZeros l D G hD u6) ⟨rfl, rfl⟩ ⟨by dsimp only [rmG_O, rmJ17_numberOfTrailingZeros]; omega, by dsimp only [rmG_O, rmJ17_numberOfTrailingZeros]; omega⟩ ⟨Nat.zero_le _, Nat.zero_le _⟩ hl.1 (Nat.le_of_ble_eq_true rfl) dX1_over_55 (fun H locs hP hS => ?_)
        refine lv_istore (lv' := [(5, .int v5), (0, .ref (ad 1000)), (1, .int x1), (2, .int x2), (3, .int x3), (4, .int x4)]) hx hb dX1_over_58 hl (by decide) rfl (fun ls hl => ?_)
        refine lv_iload_n hx hb dX1_over_60 rfl (lv_at hl 2 rfl) ?_
        refine lv_iconst hx hb dX1_over_61 ic_1 ?_
        refine lv_iload hx hb dX1_over_62 (lv_at hl 0 rfl) ?_
        refine lv_ishl hx hb dX1_over_64 ?_
        refine lv_iconst hx hb dX1_over_65 ic_m1 ?_
        refine lv_ixor hx hb dX1_over_66 ?_
        refine lv_iand hx hb dX1_over_67 ?_
        obtain ⟨v7, hv7, hf⟩ := bdP hf
        refine nm_i (Option.some.inj hv7) ?_
        refine lv_istore (lv' := [(6, .int v7), (5, .int v5), (0, .ref (ad 1000)), (1, .int x1), (2, .int x2), (3, .int x3), (4, .int x4)]) hx hb dX1_over_68 hl (by decide) rfl (fun ls hl => ?_)
        refine lv_aload_n hx hb dX1_over_70 rfl (lv_at hl 2 rfl) ?_
        refine lv_iload hx hb dX1_over_71 (lv_at hl 0 rfl) ?_
        refine lv_iload_n hx hb dX1_over_73 rfl (lv_at hl 4 rfl) ?_
        refine lv_iload_n hx hb dX1_over_74 rfl (lv_at hl 5 rfl) ?_
        refine lv_iload hx hb dX1_over_75 (lv_at hl 1 rfl) ?_
        refine lv_iconst hx hb dX1_over_77 ic_1 ?_
        obtain ⟨v8, u9, hf⟩ := bdP hf
        refine cx_X1_249_X1_with E hX hD hP hS hA (kxX1_with l D G hD rfl u9) ⟨rfl, rfl⟩ ⟨by dsimp only [rmG_O, rmX1_with]; omega, by dsimp only [rmG_O, rmX1_with]; omega⟩ ⟨Nat.zero_le _, Nat.zero_le _⟩ hl.1 (Nat.le_of_ble_eq_true rfl) dX1_over_78 (fun H locs hP hS => ?_)
        refine lv_iload hx hb dX1_over_81 (lv_at hl 6 rfl) ?_
        obtain ⟨v10, u11, hf⟩ := bdP hf
        refine cx_X1_390_X1_over E hX hD hP hS hA (hrec_X1_over _ rfl rfl rfl rfl u11) ⟨rfl, rfl⟩ ⟨Nat.le_refl _, by dsimp only [rmG_O]; omega⟩ ⟨Nat.zero_le _, Nat.zero_le _⟩ hl.1 (Nat.le_of_ble_eq_true rfl) dX1_over_83 (fun H locs hP hS => ?_)
        refine lv_aload_n hx hb dX1_over_86 rfl (lv_at hl 2 rfl) ?_
        refine lv_iload hx hb dX1_over_87 (lv_at hl 0 rfl) ?_
        refine lv_iload_n hx hb dX1_over_89 rfl (lv_at hl 4 rfl) ?_
        refine lv_iload_n hx hb dX1_over_90 rfl (lv_at hl 5 rfl) ?_
        refine lv_iload hx hb dX1_over_91 (lv_at hl 1 rfl) ?_
        refine lv_iconst hx hb dX1_over_93 ic_2 ?_
        obtain ⟨v12, u13, hf⟩ := bdP hf
        refine cx_X1_249_X1_with E hX hD hP hS hA (kxX1_with l D G hD rfl u13) ⟨rfl, rfl⟩ ⟨by dsimp only [rmG_O, rmX1_with]; omega, by dsimp only [rmG_O, rmX1_with]; omega⟩ ⟨Nat.zero_le _, Nat.zero_le _⟩ hl.1 (Nat.le_of_ble_eq_true rfl) dX1_over_94 (fun H locs hP hS => ?_)
        refine lv_iload hx hb dX1_over_97 (lv_at hl 6 rfl) ?_
        obtain ⟨v14, u15, hf⟩ := bdP hf
        refine cx_X1_390_X1_over E hX hD hP hS hA (hrec_X1_over _ rfl rfl rfl rfl u15) ⟨rfl, rfl⟩ ⟨Nat.le_refl _, by dsimp only [rmG_O]; omega⟩ ⟨Nat.zero_le _, Nat.zero_le _⟩ hl.1 (Nat.le_of_ble_eq_true rfl) dX1_over_99 (fun H locs hP hS => ?_)
        refine lv_ladd hx hb dX1_over_102 ?_
        cases hf
        rw [hQ]; exact g_lret hx hb hr hlk hP hS dX1_over_103
      · have hf := ifT c4 hf
        refine lv_aload_n hx hb dX1_over_41 rfl (lv_at hl 0 rfl) ?_
        refine gx_X1_124_1000 E hX hD hP dX1_over_42 ?_
        refine lv_iload_n hx hb dX1_over_45 rfl (lv_at hl 2 rfl) ?_
        refine lv_iload_n hx hb dX1_over_46 rfl (lv_at hl 3 rfl) ?_
        refine lv_iload hx hb dX1_over_47 (lv_at hl 4 rfl) ?_
        obtain ⟨v16, u17, hf⟩ := bdP hf
        refine cx_X1_383_X1_cell E hX hD hP hS hA (kxX1_cell l D G hD u17) ⟨rfl, rfl⟩ ⟨by dsimp only [rmG_O, rmX1_cell]; omega, by dsimp only [rmG_O, rmX1_cell]; omega⟩ ⟨Nat.zero_le _, Nat.zero_le _⟩ hl.1 (Nat.le_of_ble_eq_true rfl) dX1_over_49 (fun H locs hP hS => ?_)
        obtain ⟨v18, hv18, hf⟩ := bdP hf
        refine p_lald hx hb hX.1 hP (hD.1 _ _ dX_1126) rfl hv18 dX1_over_52 ?_
        cases hf
        rw [hQ]; exact g_lret hx hb hr hlk hP hS dX1_over_53
    · have hf := ifT c3 hf
      refine lv_aload_n hx hb dX1_over_27 rfl (lv_at hl 0 rfl) ?_
      refine gx_X1_40_1000 E hX hD hP dX1_over_28 ?_
      refine gx_X1_284_1050 E hX hD hP dX1_over_31 ?_
      refine lv_iload_n hx hb dX1_over_34 rfl (lv_at hl 3 rfl) ?_
      obtain ⟨v19, hv19, hf⟩ := bdP hf
      refine p_lald hx hb hX.1 hP (hD.1 _ _ dX_1141) rfl hv19 dX1_over_35 ?_
      cases hf
      rw [hQ]; exact g_lret hx hb hr hlk hP hS dX1_over_36
  · have hf := ifT ((lgc_eq _ _).mp c2) hf
    refine lv_lconst hx hb dX1_over_14 lc_0 ?_
    cases hf
    rw [hQ]; exact g_lret hx hb hr hlk hP hS dX1_over_15
theorem kg_O (l : Launch) (D : va_G) (G : Nat → ClassId) {dsc : Nat → Option Dsc} {ad : Nat → Nat} {nr nw nu : Nat} (hD : XD dsc nr nw nu) {z_L_to : Int32} {a_UNIT : Nat → Int32} {a_X_sums : Nat → Int64} {a_W_likely : Nat → Int64} : ∀ d : Nat, (∀ (σ1 : Sto) {x1 : Int32} {x2 : Int32} {x3 : Int32} {x4 : Int32} {r_ : Int64} (_ : σ1.1 2013 = z_L_to) (_ : σ1.2.2.1 1170 = a_UNIT) (_ : σ1.2.2.2.1 1126 = a_X_sums) (_ : σ1.2.2.2.1 1141 = a_W_likely), (xg_O z_L_to a_UNIT a_X_sums a_W_likely d) x1 x2 x3 x4 = some r_ → CtG l D G dsc ad yX1_over (ws_ yX1_over cX1_over 7 (Option.some Jvm.ClassFile.FieldType.long)) (rmG_O d) [.ref (ad 1000), .int x1, .int x2, .int x3, .int x4] σ1 (some (.long r_)) σ1) := by
  intro d
  induction d with
  | zero =>
    refine ?_ <;> (intros; rename_i hu; simp [xg_O] at hu)
  | succ d ih =>
    refine ?_
    · intro σ x1 x2 x3 x4 r_ e_zI2013 e_aI1170 e_aL1126 e_aL1141 hu
      subst e_zI2013
      subst e_aI1170
      subst e_aL1126
      subst e_aL1141
      exact p_ctG (by decide +kernel) (Nat.le_of_ble_eq_true rfl) (fun p e s m below meth c0 ls A E hP hX hA hS hl => wkX1_over ih E hX hD hA hu rfl hP hS hl)
theorem kxX1_over (l : Launch) (D : va_G) (G : Nat → ClassId) {dsc : Nat → Option Dsc} {ad : Nat → Nat} {σ : Sto} {nr nw nu : Nat} (hD : XD dsc nr nw nu) {x1 : Int32} {x2 : Int32} {x3 : Int32} {x4 : Int32} {r_ : Int64} {z_L_to : Int32} (e_zI2013 : σ.1 2013 = z_L_to) {a_UNIT : Nat → Int32} (e_aI1170 : σ.2.2.1 1170 = a_UNIT) {a_X_sums : Nat → Int64} (e_aL1126 : σ.2.2.2.1 1126 = a_X_sums) {a_W_likely : Nat → Int64} (e_aL1141 : σ.2.2.2.1 1141 = a_W_likely) (hf : (xg_O z_L_to a_UNIT a_X_sums a_W_likely 10) x1 x2 x3 x4 = some r_) : CtG l D G dsc ad yX1_over (ws_ yX1_over cX1_over 7 (Option.some Jvm.ClassFile.FieldType.long)) rmX1_over [.ref (ad 1000), .int x1, .int x2, .int x3, .int x4] σ (some (.long r_)) σ :=
  (kg_O l D G hD 10) σ e_zI2013 e_aI1170 e_aL1126 e_aL1141 hf
end XWALK
