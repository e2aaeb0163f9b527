section XWALK
variable {p : Program} {l : Launch} {e : Env} {R : Room} {s : State} {m : MethodId} {args : Array Value} {below : List Frame} {meth : Method} {c0 : Code} {H : Heap} {locs : List Loc} {cells slots : Nat} {Q : State → Prop}
variable {cc : ByteArray} {nL : Nat} {ret : Option FieldType} {pc : Nat} {ls : Array Slot} {rest : List Value} {D : va_G} {A : Nat → Prop} {G : Nat → ClassId} {dsc : Nat → Option Dsc} {ad : Nat → Nat} {σ : Sto} {nr nw nu : Nat}
theorem gx_X1_268_2000 {v : Int32} (E : EN p s m args meth c0 RX1 cc nL ret) (hX : KX D G ad A s s.heap) (hD : XD dsc nr nw nu) (hP : PIC D clsA G dsc ad σ H) (hv : σ.1 2008 = v) (hdg : decode cc pc = .ok (.getfield 268, 3)) (kk : W p l e R s m args below meth c0 H locs cells slots Q (F0 m (pc + 3) ls (.int v :: rest))) : W p l e R s m args below meth c0 H locs cells slots Q (F0 m pc ls (.ref (ad 2000) :: rest)) :=
  p_getN E.1.1 E.1.2.1 E.1.2.2.2.2 in_X3 E.1.2.2.2.1 hX.1 hP (hD.1 _ _ dX_2000) rfl 8 (by decide) (hX.2.1.1 _ q267 rfl) (fun _ h => h) rfl (congrArg Value.int hv) hdg kk
theorem cx_X1_333_X3_unseen {rm : Room} {σ1 : Sto} {x1 : Int32} {x2 : Int32} {r : Int32} (E : EN p s m args meth c0 RX1 cc nL ret) (hX : KX D G ad A s s.heap) (hD : XD dsc nr nw nu) (hP : PIC D clsA G dsc ad σ H) (hS : va_S A s.heap H locs) (hA : ∀ q, PA dsc ad s.heap.size q → A q) (hM : CtG l D G dsc ad yX3_unseen (ws_ yX3_unseen cX3_unseen 5 (Option.some Jvm.ClassFile.FieldType.int)) rm [.ref (ad 2000), .int x1, .int x2] σ (some (.int r)) σ1) (hz : rm.cells = 0 ∧ rm.slots = 0) (hR : rm.frames + 1 ≤ R.frames ∧ 8 + (5 + 11) + rm.locals ≤ R.locals) (hcs : cells ≤ R.cells ∧ slots ≤ R.slots) (hsz : ls.size = nL) (hW : (rest.map fun v => v.category).sum ≤ 8) (hdg : decode cc pc = .ok (.invokevirtual 333, 3)) (kk : ∀ (H1 : Heap) (locs1 : List Loc), PIC D clsA G dsc ad σ1 H1 → va_S A s.heap H1 locs1 → W p l e R s m args below meth c0 H1 locs1 cells slots Q (F0 m (pc + 3) ls (.int r :: rest))) : W p l e R s m args below meth c0 H locs cells slots Q (F0 m pc ls (.int x2 :: .int x1 :: .ref (ad 2000) :: rest)) :=
  p_gV (As := [.int x1, .int x2]) (rest := rest) E.1 hX hP hS hA hM (cwV 2 E.1.2.2.2.2 (lw_V q1367 q1082 q1083 q126 q1084) rfl hz.1 hz.2 (by decide +kernel) hR) (hD.1 _ _ dX_2000) rfl rfl rfl hsz rfl hW hdg hcs kk
theorem gx_X1_398_2000 (E : EN p s m args meth c0 RX1 cc nL ret) (hX : KX D G ad A s s.heap) (hD : XD dsc nr nw nu) (hP : PIC D clsA G dsc ad σ H) (hdg : decode cc pc = .ok (.getfield 398, 3)) (kk : W p l e R s m args below meth c0 H locs cells slots Q (F0 m (pc + 3) ls (.ref (ad 2030) :: rest))) : W p l e R s m args below meth c0 H locs cells slots Q (F0 m pc ls (.ref (ad 2000) :: rest)) :=
  p_getN E.1.1 E.1.2.1 E.1.2.2.2.2 in_X3 E.1.2.2.2.1 hX.1 hP (hD.1 _ _ dX_2000) rfl 2 (by decide) (hX.2.1.1 _ q250 rfl) (fun _ h => h) rfl rfl hdg kk
theorem cx_X1_190_J2_size_Lw {rm : Room} {σ1 : Sto} {r : Int32} (E : EN p s m args meth c0 RX1 cc nL ret) (hX : KX D G ad A s s.heap) (hD : XD dsc nr nw nu) (hP : PIC D clsA G dsc ad σ H) (hS : va_S A s.heap H locs) (hA : ∀ q, PA dsc ad s.heap.size q → A q) (hM : CtG l D G dsc ad yJ2_size (ws_ yJ2_size cJ2_size 1 (Option.some Jvm.ClassFile.FieldType.int)) rm [.ref (ad 2030)] σ (some (.int r)) σ1) (hz : rm.cells = 0 ∧ rm.slots = 0) (hR : rm.frames + 1 ≤ R.frames ∧ 8 + (1 + 11) + rm.locals ≤ R.locals) (hcs : cells ≤ R.cells ∧ slots ≤ R.slots) (hsz : ls.size = nL) (hW : (rest.map fun v => v.category).sum ≤ 8) (hdg : decode cc pc = .ok (.invokevirtual 190, 3)) (kk : ∀ (H1 : Heap) (locs1 : List Loc), PIC D clsA G dsc ad σ1 H1 → va_S A s.heap H1 locs1 → W p l e R s m args below meth c0 H1 locs1 cells slots Q (F0 m (pc + 3) ls (.int r :: rest))) : W p l e R s m args below meth c0 H locs cells slots Q (F0 m pc ls (.ref (ad 2030) :: rest)) :=
  p_gV (As := []) (rest := rest) E.1 hX hP hS hA hM (cwV 0 E.1.2.2.2.2 (lw_V q1197 q780 q781 q129 q782) rfl hz.1 hz.2 (by decide +kernel) hR) (hD.1 _ _ dX_2030) rfl rfl rfl hsz rfl hW hdg hcs kk
theorem cx_X1_197_J2_get_Lw {rm : Room} {σ1 : Sto} {x1 : Int32} {r : Int32} (E : EN p s m args meth c0 RX1 cc nL ret) (hX : KX D G ad A s s.heap) (hD : XD dsc nr nw nu) (hP : PIC D clsA G dsc ad σ H) (hS : va_S A s.heap H locs) (hA : ∀ q, PA dsc ad s.heap.size q → A q) (hM : CtG l D G dsc ad yJ2_get (ws_ yJ2_get cJ2_get 2 (Option.some (Jvm.ClassFile.FieldType.object "java/lang/Object"))) rm [.ref (ad 2030), .int x1] σ (some (va_rf (drf ad 8000 r))) σ1) (hz : rm.cells = 0 ∧ rm.slots = 0) (hR : rm.frames + 1 ≤ R.frames ∧ 8 + (2 + 11) + rm.locals ≤ R.locals) (hcs : cells ≤ R.cells ∧ slots ≤ R.slots) (hsz : ls.size = nL) (hW : (rest.map fun v => v.category).sum ≤ 8) (hdg : decode cc pc = .ok (.invokevirtual 197, 3)) (kk : ∀ (H1 : Heap) (locs1 : List Loc), PIC D clsA G dsc ad σ1 H1 → va_S A s.heap H1 locs1 → W p l e R s m args below meth c0 H1 locs1 cells slots Q (F0 m (pc + 3) ls (va_rf (drf ad 8000 r) :: rest))) : W p l e R s m args below meth c0 H locs cells slots Q (F0 m pc ls (.int x1 :: .ref (ad 2030) :: rest)) :=
  p_gV (As := [.int x1]) (rest := rest) E.1 hX hP hS hA hM (cwV 1 E.1.2.2.2.2 (lw_V q1468 q1011 q1012 q129 q1013) rfl hz.1 hz.2 (by decide +kernel) hR) (hD.1 _ _ dX_2030) rfl rfl rfl hsz rfl hW hdg hcs kk
theorem gp_X1_403_W {v h : Int32} {f : Nat → Int32} (E : EN p s m args meth c0 RX1 cc nL ret) (hX : KX D G ad A s s.heap) (hD : XD dsc nr nw nu) (hP : PIC D clsA G dsc ad σ H) (hf : (fun k => σ.1 (8000 + 16 * k + 0)) = f) (hv : rdI f nw v = some h) (hdg : decode cc pc = .ok (.getfield 403, 3)) (kk : W p l e R s m args below meth c0 H locs cells slots Q (F0 m (pc + 3) ls (.int h :: rest))) : W p l e R s m args below meth c0 H locs cells slots Q (F0 m pc ls (va_rf (drf ad 8000 v) :: rest)) := by
  subst hf
  obtain ⟨h0, h1, h2⟩ := pool_ok hv
  exact p_nn h0 (p_getN E.1.1 E.1.2.1 E.1.2.2.2.2 in_X19 E.1.2.2.2.1 hX.1 hP (hD.2.2.1 _ h1) rfl 0 (by decide) (hX.2.1.1 _ q959 rfl) (fun _ h => h) rfl (congrArg Value.int h2) hdg kk)
theorem gp_X1_404_W {v h : Int32} {f : Nat → Int32} (E : EN p s m args meth c0 RX1 cc nL ret) (hX : KX D G ad A s s.heap) (hD : XD dsc nr nw nu) (hP : PIC D clsA G dsc ad σ H) (hf : (fun k => σ.1 (8000 + 16 * k + 1)) = f) (hv : rdI f nw v = some h) (hdg : decode cc pc = .ok (.getfield 404, 3)) (kk : W p l e R s m args below meth c0 H locs cells slots Q (F0 m (pc + 3) ls (.int h :: rest))) : W p l e R s m args below meth c0 H locs cells slots Q (F0 m pc ls (va_rf (drf ad 8000 v) :: rest)) := by
  subst hf
  obtain ⟨h0, h1, h2⟩ := pool_ok hv
  exact p_nn h0 (p_getN E.1.1 E.1.2.1 E.1.2.2.2.2 in_X19 E.1.2.2.2.1 hX.1 hP (hD.2.2.1 _ h1) rfl 1 (by decide) (hX.2.1.1 _ q963 rfl) (fun _ h => h) rfl (congrArg Value.int h2) hdg kk)
theorem gp_X1_407_W {v h : Int32} {f : Nat → Int32} (E : EN p s m args meth c0 RX1 cc nL ret) (hX : KX D G ad A s s.heap) (hD : XD dsc nr nw nu) (hP : PIC D clsA G dsc ad σ H) (hf : (fun k => σ.1 (8000 + 16 * k + 2)) = f) (hv : rdI f nw v = some h) (hdg : decode cc pc = .ok (.getfield 407, 3)) (kk : W p l e R s m args below meth c0 H locs cells slots Q (F0 m (pc + 3) ls (.int h :: rest))) : W p l e R s m args below meth c0 H locs cells slots Q (F0 m pc ls (va_rf (drf ad 8000 v) :: rest)) := by
  subst hf
  obtain ⟨h0, h1, h2⟩ := pool_ok hv
  exact p_nn h0 (p_getN E.1.1 E.1.2.1 E.1.2.2.2.2 in_X19 E.1.2.2.2.1 hX.1 hP (hD.2.2.1 _ h1) rfl 2 (by decide) (hX.2.1.1 _ q967 rfl) (fun _ h => h) rfl (congrArg Value.int h2) hdg kk)
/-! X1_inTime (III)J -/
abbrev rmX1_inTime : Room := { frames := 12, cells := 0, slots := 0, locals := 308 }
set_option maxHeartbeats 4000000 in
theorem wkX1_inTime {x1 : Int32} {x2 : Int32} {x3 : Int32} {r_ : Int64} (E : EN p s m args meth c0 RX1 cX1_inTime 8 (Option.some Jvm.ClassFile.FieldType.long)) (hX : KX D G ad A s s.heap) (hD : XD dsc nr nw nu) (hA : ∀ q, PA dsc ad s.heap.size q → A q) (hf : xo_X1_inTime (σ.1 2008) (σ.1 2013) (σ.1 2027) (σ.1 2032) (σ.2.2.1 1170) (σ.2.2.1 2037) (σ.2.2.1 2043) (σ.2.2.2.1 1126) (σ.2.2.2.1 1141) nr nw (fun k => σ.1 (6000 + 16 * k + 2)) (fun k => σ.1 (6000 + 16 * k + 5)) (fun k => σ.1 (6000 + 16 * k + 6)) (fun k => σ.1 (8000 + 16 * k + 0)) (fun k => σ.1 (8000 + 16 * k + 1)) (fun k => σ.1 (8000 + 16 * k + 2)) (fun k => σ.2.2.1 (4000 + 16 * k)) x1 x2 x3 = some r_) (hQ : Q = MQ below (va_G1 (some (.long r_)) (fun t => PIC D clsA G dsc ad σ t.heap) A) args s 0 0 A) (hP : PIC D clsA G dsc ad σ H) (hS : va_S A s.heap H locs) (hl : lv_has ls 8 [(0, .ref (ad 1000)), (1, .int x1), (2, .int x2), (3, .int x3)]) : W p l e rmX1_inTime s m args below meth c0 H locs 0 0 Q (F0 m 0 ls []) := by
  obtain ⟨⟨hx, hb, hml, hown, hts⟩, hr, hlk⟩ := id E
  unfold xo_X1_inTime at hf
  refine lv_lconst hx hb dX1_inTime_0 lc_0 ?_
  refine lv_lstore (lv' := [(4, .long 0), (0, .ref (ad 1000)), (1, .int x1), (2, .int x2), (3, .int x3)]) hx hb dX1_inTime_1 hl (by decide) rfl (fun ls hl => ?_)
  refine lv_iconst hx hb dX1_inTime_3 ic_0 ?_
  refine lv_istore (lv' := [(6, .int 0), (4, .long 0), (0, .ref (ad 1000)), (1, .int x1), (2, .int x2), (3, .int x3)]) hx hb dX1_inTime_4 hl (by decide) rfl (fun ls hl => ?_)
  have LP6 : ∀ (st6 : Int64 × Int32) (ex6 : (Int64)), loop (xo_X1_inTime_L6 (σ.1 2008) (σ.1 2013) (σ.1 2027) (σ.2.2.1 1170) (σ.2.2.1 2043) (σ.2.2.2.1 1126) (σ.2.2.2.1 1141) nr (fun k => σ.1 (6000 + 16 * k + 2)) (fun k => σ.1 (6000 + 16 * k + 5)) (fun k => σ.1 (6000 + 16 * k + 6)) (fun k => σ.2.2.1 (4000 + 16 * k)) x1 x2 x3) st6 = some ex6 → ∀ (H : Heap) (locs : List Loc), PIC D clsA G dsc ad σ H → va_S A s.heap H locs → ∀ (ls : Array Slot), lv_has ls 8 [(0, .ref (ad 1000)), (1, .int x1), (2, .int x2), (3, .int x3), (4, .long (st6.1)), (6, .int (st6.2))] → (∀ (y14 : Int64), ex6 = y14 → ∀ (H : Heap) (locs : List Loc), PIC D clsA G dsc ad σ H → va_S A s.heap H locs → ∀ (ls : Array Slot), lv_has ls 8 [(0, .ref (ad 1000)), (1, .int x1), (2, .int x2), (3, .int x3), (4, .long y14)] → W p l e rmX1_inTime s m args below meth c0 H locs 0 0 Q (F0 m 71 ls [])) → W p l e rmX1_inTime s m args below meth c0 H locs 0 0 Q (F0 m 6 ls []) := by
    refine loop_P (fun st6 ex6 o6 hf ih6 hx6 => ?_)
    obtain ⟨y1, y2⟩ := st6
    intro H locs (hP : PIC D clsA G dsc ad σ H) hS ls (hl : lv_has ls 8 [(0, .ref (ad 1000)), (1, .int x1), (2, .int x2), (3, .int x3), (4, .long y1), (6, .int y2)]) KE6_0
    dsimp only [xo_X1_inTime_L6] at hf
    refine lv_iload hx hb dX1_inTime_6 (lv_at hl 5 rfl) ?_
    refine lv_aload_n hx hb dX1_inTime_8 rfl (lv_at hl 0 rfl) ?_
    refine gx_X1_33_1000 E hX hD hP dX1_inTime_9 ?_
    refine gx_X1_268_2000 (v := (σ.1 2008)) E hX hD hP rfl dX1_inTime_12 ?_
    refine lv_icmp_ge (tgt := 71) hx hb dX1_inTime_15 (by decide) (fun c3 => ?_) (fun c3 => ?_)
    · have hf := ifT c3 hf
      exact KE6_0 _ (hx6 _ (Option.some.inj hf).symm).symm H locs hP hS ls (lv_sub hl [0, 1, 2, 3, 4] rfl)
    · have hf := ifF c3 hf
      refine lv_aload_n hx hb dX1_inTime_18 rfl (lv_at hl 0 rfl) ?_
      refine gx_X1_33_1000 E hX hD hP dX1_inTime_19 ?_
      refine lv_iload_n hx hb dX1_inTime_22 rfl (lv_at hl 1 rfl) ?_
      refine lv_iload hx hb dX1_inTime_23 (lv_at hl 5 rfl) ?_
      refine lv_iload_n hx hb dX1_inTime_25 rfl (lv_at hl 2 rfl) ?_
      obtain ⟨v4, u5, hf⟩ := bdP hf
      refine cx_X1_263_X3_cost E hX hD hP hS hA (kxX3_cost l D G hD rfl rfl rfl rfl rfl rfl u5) ⟨rfl, rfl⟩ ⟨Nat.le_of_ble_eq_true rfl, Nat.le_of_ble_eq_true rfl⟩ ⟨Nat.zero_le _, Nat.zero_le _⟩ hl.1 (Nat.le_of_ble_eq_true rfl) dX1_inTime_26 (fun H locs hP hS => ?_)
      refine lv_istore (lv' := [(7, .int v4), (0, .ref (ad 1000)), (1, .int x1), (2, .int x2), (3, .int x3), (4, .long y1), (6, .int y2)]) hx hb dX1_inTime_29 hl (by decide) rfl (fun ls hl => ?_)
      refine lv_iload hx hb dX1_inTime_31 (lv_at hl 0 rfl) ?_
      refine lv_iload_n hx hb dX1_inTime_33 rfl (lv_at hl 4 rfl) ?_
      have J65 : ∀ (y6 : Int64), xo_X1_inTime_J65 y2 y6 = some o6 → ∀ (H : Heap) (locs : List Loc), PIC D clsA G dsc ad σ H → va_S A s.heap H locs → ∀ (ls : Array Slot), lv_has ls 8 [(0, .ref (ad 1000)), (1, .int x1), (2, .int x2), (3, .int x3), (4, .long y6), (6, .int y2)] → W p l e rmX1_inTime s m args below meth c0 H locs 0 0 Q (F0 m 65 ls []) := by
        intro y6 hf H locs hP hS ls hl
        unfold xo_X1_inTime_J65 at hf
        obtain ⟨v7, hv7, hf⟩ := bdP hf
        refine lv_iinc (v := v7) (lv' := [(6, .int v7), (0, .ref (ad 1000)), (1, .int x1), (2, .int x2), (3, .int x3), (4, .long y6)]) hx hb dX1_inTime_65 hl (k := 5) rfl (Option.some.inj hv7) (by decide) rfl (fun ls hl => ?_)
        refine lv_goto (tgt := 6) hx hb dX1_inTime_68 (by decide) ?_
        exact ih6 _ (Option.some.inj hf).symm H locs hP hS ls (lv_sub hl [1, 2, 3, 4, 5, 0] rfl) KE6_0
      refine lv_icmp_gt (tgt := 65) hx hb dX1_inTime_34 (by decide) (fun c8 => ?_) (fun c8 => ?_)
      · have hf := ifT c8 hf
        exact J65 y1 hf H locs hP hS ls (lv_sub hl [1, 2, 3, 4, 5, 6] rfl)
      · have hf := ifF c8 hf
        refine lv_lload hx hb dX1_inTime_37 (lv_at hl 5 rfl) ?_
        refine lv_aload_n hx hb dX1_inTime_39 rfl (lv_at hl 1 rfl) ?_
        refine lv_aload_n hx hb dX1_inTime_40 rfl (lv_at hl 1 rfl) ?_
        refine gx_X1_33_1000 E hX hD hP dX1_inTime_41 ?_
        refine lv_iload hx hb dX1_inTime_44 (lv_at hl 6 rfl) ?_
        refine lv_iload_n hx hb dX1_inTime_46 rfl (lv_at hl 3 rfl) ?_
        obtain ⟨v9, u10, hf⟩ := bdP hf
        refine cx_X1_333_X3_unseen E hX hD hP hS hA (kxX3_unseen l D G hD rfl rfl rfl u10) ⟨rfl, rfl⟩ ⟨Nat.le_of_ble_eq_true rfl, Nat.le_of_ble_eq_true rfl⟩ ⟨Nat.zero_le _, Nat.zero_le _⟩ hl.1 (Nat.le_of_ble_eq_true rfl) dX1_inTime_47 (fun H locs hP hS => ?_)
        refine lv_iload hx hb dX1_inTime_50 (lv_at hl 6 rfl) ?_
        refine lv_iload_n hx hb dX1_inTime_52 rfl (lv_at hl 3 rfl) ?_
        refine lv_iload_n hx hb dX1_inTime_53 rfl (lv_at hl 4 rfl) ?_
        refine lv_iload hx hb dX1_inTime_54 (lv_at hl 0 rfl) ?_
        refine lv_isub hx hb dX1_inTime_56 ?_
        obtain ⟨v11, u12, hf⟩ := bdP hf
        refine cx_X1_390_X1_over E hX hD hP hS hA (kxX1_over l D G hD rfl rfl rfl rfl u12) ⟨rfl, rfl⟩ ⟨Nat.le_of_ble_eq_true rfl, Nat.le_of_ble_eq_true rfl⟩ ⟨Nat.zero_le _, Nat.zero_le _⟩ hl.1 (Nat.le_of_ble_eq_true rfl) dX1_inTime_57 (fun H locs hP hS => ?_)
        refine va_mmax_long hx hb (hml.trans hl.1.symm) hown (hts _ q1467) (hts _ q1147) (hts _ q152) (hts _ q1148) (Nat.le_of_ble_eq_true rfl) (Nat.le_of_ble_eq_true rfl) (Nat.zero_le _) (Nat.zero_le _) dX1_inTime_60 ?_
        obtain ⟨v13, hv13, hf⟩ := bdP hf
        refine nm_l (Option.some.inj hv13) ?_
        refine lv_lstore (lv' := [(4, .long v13), (7, .int v4), (0, .ref (ad 1000)), (1, .int x1), (2, .int x2), (3, .int x3), (6, .int y2)]) hx hb dX1_inTime_63 hl (by decide) rfl (fun ls hl => ?_)
        exact J65 v13 hf H locs hP hS ls (lv_sub hl [2, 3, 4, 5, 0, 6] rfl)
  obtain ⟨ex6, hlp6, hf⟩ := bdP hf
  refine LP6 (0, 0) ex6 hlp6 H locs hP hS ls (lv_sub hl [2, 3, 4, 5, 1, 0] rfl) ?_
  intro y14 hex6 H locs hP hS ls hl
  subst ex6
  refine lv_iconst hx hb dX1_inTime_71 ic_0 ?_
  refine lv_istore (lv' := [(6, .int 0), (0, .ref (ad 1000)), (1, .int x1), (2, .int x2), (3, .int x3), (4, .long y14)]) hx hb dX1_inTime_72 hl (by decide) rfl (fun ls hl => ?_)
  have LP74 : ∀ (st74 : Int64 × Int32) (ex74 : (Int64)), loop (xo_X1_inTime_L74 (σ.1 2013) (σ.1 2032) (σ.2.2.1 1170) (σ.2.2.1 2037) (σ.2.2.2.1 1126) (σ.2.2.2.1 1141) nw (fun k => σ.1 (8000 + 16 * k + 0)) (fun k => σ.1 (8000 + 16 * k + 1)) (fun k => σ.1 (8000 + 16 * k + 2)) x1 x2 x3) st74 = some ex74 → ∀ (H : Heap) (locs : List Loc), PIC D clsA G dsc ad σ H → va_S A s.heap H locs → ∀ (ls : Array Slot), lv_has ls 8 [(0, .ref (ad 1000)), (1, .int x1), (2, .int x2), (3, .int x3), (4, .long (st74.1)), (6, .int (st74.2))] → (∀ (y38 : Int64), ex74 = y38 → ∀ (H : Heap) (locs : List Loc), PIC D clsA G dsc ad σ H → va_S A s.heap H locs → ∀ (ls : Array Slot), lv_has ls 8 [(4, .long y38)] → W p l e rmX1_inTime s m args below meth c0 H locs 0 0 Q (F0 m 169 ls [])) → W p l e rmX1_inTime s m args below meth c0 H locs 0 0 Q (F0 m 74 ls []) := by
    refine loop_P (fun st74 ex74 o74 hf ih74 hx74 => ?_)
    obtain ⟨y15, y16⟩ := st74
    intro H locs (hP : PIC D clsA G dsc ad σ H) hS ls (hl : lv_has ls 8 [(0, .ref (ad 1000)), (1, .int x1), (2, .int x2), (3, .int x3), (4, .long y15), (6, .int y16)]) KE74_0
    dsimp only [xo_X1_inTime_L74] at hf
    refine lv_iload hx hb dX1_inTime_74 (lv_at hl 5 rfl) ?_
    refine lv_aload_n hx hb dX1_inTime_76 rfl (lv_at hl 0 rfl) ?_
    refine gx_X1_33_1000 E hX hD hP dX1_inTime_77 ?_
    refine gx_X1_398_2000 E hX hD hP dX1_inTime_80 ?_
    obtain ⟨v17, u18, hf⟩ := bdP hf
    refine cx_X1_190_J2_size_Lw E hX hD hP hS hA (kxJ2_size_Lw l D G hD rfl u18) ⟨rfl, rfl⟩ ⟨Nat.le_of_ble_eq_true rfl, Nat.le_of_ble_eq_true rfl⟩ ⟨Nat.zero_le _, Nat.zero_le _⟩ hl.1 (Nat.le_of_ble_eq_true rfl) dX1_inTime_83 (fun H locs hP hS => ?_)
    refine lv_icmp_ge (tgt := 169) hx hb dX1_inTime_86 (by decide) (fun c19 => ?_) (fun c19 => ?_)
    · have hf := ifT c19 hf
      exact KE74_0 _ (hx74 _ (Option.some.inj hf).symm).symm H locs hP hS ls (lv_sub hl [4] rfl)
    · have hf := ifF c19 hf
      refine lv_aload_n hx hb dX1_inTime_89 rfl (lv_at hl 0 rfl) ?_
      refine gx_X1_33_1000 E hX hD hP dX1_inTime_90 ?_
      refine gx_X1_398_2000 E hX hD hP dX1_inTime_93 ?_
      refine lv_iload hx hb dX1_inTime_96 (lv_at hl 5 rfl) ?_
      obtain ⟨v20, u21, hf⟩ := bdP hf
      refine cx_X1_197_J2_get_Lw E hX hD hP hS hA (kxJ2_get_Lw l D G hD rfl rfl u21) ⟨rfl, rfl⟩ ⟨Nat.le_of_ble_eq_true rfl, Nat.le_of_ble_eq_true rfl⟩ ⟨Nat.zero_le _, Nat.zero_le _⟩ hl.1 (Nat.le_of_ble_eq_true rfl) dX1_inTime_98 (fun H locs hP hS => ?_)
      obtain ⟨v22, hv22, hf⟩ := bdP hf
      refine p_castP (ci := 16) (q := (RX19, TX19, 3)) hx hb hX.1 hP hown (hts _ q1469) hv22 hD.2.2.1 rfl dX1_inTime_101 ?_
      refine r_astore (lv' := [(7, va_rf (drf ad 8000 v22)), (0, .ref (ad 1000)), (1, .int x1), (2, .int x2), (3, .int x3), (4, .long y15), (6, .int y16)]) hx hb dX1_inTime_104 hl (by decide) rfl (fun ls hl => ?_)
      refine r_aload hx hb dX1_inTime_106 (lv_at hl 0 rfl) ?_
      obtain ⟨v23, hv23, hf⟩ := bdP hf
      refine gp_X1_403_W E hX hD hP rfl hv23 dX1_inTime_108 ?_
      refine lv_iload_n hx hb dX1_inTime_111 rfl (lv_at hl 2 rfl) ?_
      have J163 : ∀ (y24 : Int64), xo_X1_inTime_J163 y16 y24 = some o74 → ∀ (H : Heap) (locs : List Loc), PIC D clsA G dsc ad σ H → va_S A s.heap H locs → ∀ (ls : Array Slot), lv_has ls 8 [(0, .ref (ad 1000)), (1, .int x1), (2, .int x2), (3, .int x3), (4, .long y24), (6, .int y16)] → W p l e rmX1_inTime s m args below meth c0 H locs 0 0 Q (F0 m 163 ls []) := by
        intro y24 hf H locs hP hS ls hl
        unfold xo_X1_inTime_J163 at hf
        obtain ⟨v25, hv25, hf⟩ := bdP hf
        refine lv_iinc (v := v25) (lv' := [(6, .int v25), (0, .ref (ad 1000)), (1, .int x1), (2, .int x2), (3, .int x3), (4, .long y24)]) hx hb dX1_inTime_163 hl (k := 5) rfl (Option.some.inj hv25) (by decide) rfl (fun ls hl => ?_)
        refine lv_goto (tgt := 74) hx hb dX1_inTime_166 (by decide) ?_
        exact ih74 _ (Option.some.inj hf).symm H locs hP hS ls (lv_sub hl [1, 2, 3, 4, 5, 0] rfl) KE74_0
      refine lv_icmp_ne (tgt := 163) hx hb dX1_inTime_112 (by decide) (fun c26 => ?_) (fun c26 => ?_)
      · have hf := ifF c26 hf
        exact J163 y15 hf H locs hP hS ls (lv_sub hl [1, 2, 3, 4, 5, 6] rfl)
      · have hf := ifT c26 hf
        refine lv_iload_n hx hb dX1_inTime_115 rfl (lv_at hl 3 rfl) ?_
        refine r_aload hx hb dX1_inTime_116 (lv_at hl 0 rfl) ?_
        obtain ⟨v27, hv27, hf⟩ := bdP hf
        refine gp_X1_404_W E hX hD hP rfl hv27 dX1_inTime_118 ?_
        obtain ⟨v28, u29, hf⟩ := bdP hf
        refine cx_X1_290_X1_digit E hX hD hP hS hA (kxX1_digit l D G hD rfl u29) ⟨rfl, rfl⟩ ⟨Nat.le_of_ble_eq_true rfl, Nat.le_of_ble_eq_true rfl⟩ ⟨Nat.zero_le _, Nat.zero_le _⟩ hl.1 (Nat.le_of_ble_eq_true rfl) dX1_inTime_121 (fun H locs hP hS => ?_)
        refine lv_if_ne (tgt := 163) hx hb dX1_inTime_124 (by decide) (fun c30 => ?_) (fun c30 => ?_)
        · have hf := ifF c30 hf
          exact J163 y15 hf H locs hP hS ls (lv_sub hl [1, 2, 3, 4, 5, 6] rfl)
        · have hf := ifT c30 hf
          refine r_aload hx hb dX1_inTime_127 (lv_at hl 0 rfl) ?_
          obtain ⟨v31, hv31, hf⟩ := bdP hf
          refine gp_X1_407_W E hX hD hP rfl hv31 dX1_inTime_129 ?_
          refine lv_iload_n hx hb dX1_inTime_132 rfl (lv_at hl 4 rfl) ?_
          refine lv_icmp_gt (tgt := 163) hx hb dX1_inTime_133 (by decide) (fun c32 => ?_) (fun c32 => ?_)
          · have hf := ifT c32 hf
            exact J163 y15 hf H locs hP hS ls (lv_sub hl [1, 2, 3, 4, 5, 6] rfl)
          · have hf := ifF c32 hf
            refine lv_lload hx hb dX1_inTime_136 (lv_at hl 5 rfl) ?_
            refine lv_aload_n hx hb dX1_inTime_138 rfl (lv_at hl 1 rfl) ?_
            refine lv_iconst hx hb dX1_inTime_139 ic_1 ?_
            refine r_aload hx hb dX1_inTime_140 (lv_at hl 0 rfl) ?_
            obtain ⟨v33, hv33, hf⟩ := bdP hf
            refine gp_X1_404_W E hX hD hP rfl hv33 dX1_inTime_142 ?_
            refine lv_ishl hx hb dX1_inTime_145 ?_
            refine lv_iload_n hx hb dX1_inTime_146 rfl (lv_at hl 2 rfl) ?_
            refine lv_iload_n hx hb dX1_inTime_147 rfl (lv_at hl 3 rfl) ?_
            refine lv_iload_n hx hb dX1_inTime_148 rfl (lv_at hl 4 rfl) ?_
            refine r_aload hx hb dX1_inTime_149 (lv_at hl 0 rfl) ?_
            obtain ⟨v34, hv34, hf⟩ := bdP hf
            refine gp_X1_407_W E hX hD hP rfl hv34 dX1_inTime_151 ?_
            refine lv_isub hx hb dX1_inTime_154 ?_
            obtain ⟨v35, u36, hf⟩ := bdP hf
            refine cx_X1_390_X1_over E hX hD hP hS hA (kxX1_over l D G hD rfl rfl rfl rfl u36) ⟨rfl, rfl⟩ ⟨Nat.le_of_ble_eq_true rfl, Nat.le_of_ble_eq_true rfl⟩ ⟨Nat.zero_le _, Nat.zero_le _⟩ hl.1 (Nat.le_of_ble_eq_true rfl) dX1_inTime_155 (fun H locs hP hS => ?_)
            refine va_mmax_long hx hb (hml.trans hl.1.symm) hown (hts _ q1467) (hts _ q1147) (hts _ q152) (hts _ q1148) (Nat.le_of_ble_eq_true rfl) (Nat.le_of_ble_eq_true rfl) (Nat.zero_le _) (Nat.zero_le _) dX1_inTime_158 ?_
            obtain ⟨v37, hv37, hf⟩ := bdP hf
            refine nm_l (Option.some.inj hv37) ?_
            refine lv_lstore (lv' := [(4, .long v37), (7, va_rf (drf ad 8000 v22)), (0, .ref (ad 1000)), (1, .int x1), (2, .int x2), (3, .int x3), (6, .int y16)]) hx hb dX1_inTime_161 hl (by decide) rfl (fun ls hl => ?_)
            exact J163 v37 hf H locs hP hS ls (lv_sub hl [2, 3, 4, 5, 0, 6] rfl)
  obtain ⟨ex74, hlp74, hf⟩ := bdP hf
  refine LP74 (y14, 0) ex74 hlp74 H locs hP hS ls (lv_sub hl [1, 2, 3, 4, 5, 0] rfl) ?_
  intro y38 hex74 H locs hP hS ls hl
  subst ex74
  refine lv_lload hx hb dX1_inTime_169 (lv_at hl 0 rfl) ?_
  cases hf
  rw [hQ]; exact g_lret hx hb hr hlk hP hS dX1_inTime_171
theorem kxX1_inTime (l : Launch) (D : va_G) (G : Nat → ClassId) {dsc : Nat → Option Dsc} {ad : Nat → Nat} {σ : Sto} {nr nw nu : Nat} (hD : XD dsc nr nw nu) {x1 : Int32} {x2 : Int32} {x3 : Int32} {r_ : Int64} {z_L_places : Int32} (e_zI2008 : σ.1 2008 = z_L_places) {z_L_to : Int32} (e_zI2013 : σ.1 2013 = z_L_to) {z_Ld_size : Int32} (e_zI2027 : σ.1 2027 = z_Ld_size) {z_Lw_size : Int32} (e_zI2032 : σ.1 2032 = z_Lw_size) {a_UNIT : Nat → Int32} (e_aI1170 : σ.2.2.1 1170 = a_UNIT) {a_Lw_data : Nat → Int32} (e_aI2037 : σ.2.2.1 2037 = a_Lw_data) {a_L_seen : Nat → Int32} (e_aI2043 : σ.2.2.1 2043 = a_L_seen) {a_X_sums : Nat → Int64} (e_aL1126 : σ.2.2.2.1 1126 = a_X_sums) {a_W_likely : Nat → Int64} (e_aL1141 : σ.2.2.2.1 1141 = a_W_likely) {n_r : Nat} (e_nN0 : nr = n_r) {n_w : Nat} (e_nN1 : nw = n_w) {p_road_hours : Nat → Int32} (e_pR2 : (fun k => σ.1 (6000 + 16 * k + 2)) = p_road_hours) {p_road_wait : Nat → Int32} (e_pR5 : (fun k => σ.1 (6000 + 16 * k + 5)) = p_road_wait) {p_road_number : Nat → Int32} (e_pR6 : (fun k => σ.1 (6000 + 16 * k + 6)) = p_road_number) {p_word_place : Nat → Int32} (e_pW0 : (fun k => σ.1 (8000 + 16 * k + 0)) = p_word_place) {p_word_road : Nat → Int32} (e_pW1 : (fun k => σ.1 (8000 + 16 * k + 1)) = p_word_road) {p_word_hours : Nat → Int32} (e_pW2 : (fun k => σ.1 (8000 + 16 * k + 2)) = p_word_hours) {g_grid : Nat → Nat → Int32} (e_gG0 : (fun k => σ.2.2.1 (4000 + 16 * k)) = g_grid) (hf : xo_X1_inTime z_L_places z_L_to z_Ld_size z_Lw_size a_UNIT a_Lw_data a_L_seen a_X_sums a_W_likely n_r n_w p_road_hours p_road_wait p_road_number p_word_place p_word_road p_word_hours g_grid x1 x2 x3 = some r_) : CtG l D G dsc ad yX1_inTime (ws_ yX1_inTime cX1_inTime 8 (Option.some Jvm.ClassFile.FieldType.long)) rmX1_inTime [.ref (ad 1000), .int x1, .int x2, .int x3] σ (some (.long r_)) σ := by
  subst e_zI2008
  subst e_zI2013
  subst e_zI2027
  subst e_zI2032
  subst e_aI1170
  subst e_aI2037
  subst e_aI2043
  subst e_aL1126
  subst e_aL1141
  subst e_nN0
  subst e_nN1
  subst e_pR2
  subst e_pR5
  subst e_pR6
  subst e_pW0
  subst e_pW1
  subst e_pW2
  subst e_gG0
  exact p_ctG (by decide +kernel) (Nat.le_of_ble_eq_true rfl) (fun p e s m below meth c0 ls A E hP hX hA hS hl => wkX1_inTime E hX hD hA hf rfl hP hS hl)
theorem ux_X1_181_1000 {v : Int32} {σ1 : Sto} (E : EN p s m args meth c0 RX1 cc nL ret) (hX : KX D G ad A s s.heap) (hD : XD dsc nr nw nu) (hP : PIC D clsA G dsc ad σ H) (hS : va_S A s.heap H locs) (hA : A (ad 1000)) (hz : narrow .boolean (.int v) = .int v) (hz2 : fits .boolean (.int v) = true) (hσ : zI σ 1022 v = σ1) (hdg : decode cc pc = .ok (.putfield 181, 3)) (kk : ∀ (H1 : Heap) (locs1 : List Loc), PIC D clsA G dsc ad σ1 H1 → va_S A s.heap H1 locs1 → W p l e R s m args below meth c0 H1 locs1 cells slots Q (F0 m (pc + 3) ls rest)) : W p l e R s m args below meth c0 H locs cells slots Q (F0 m pc ls (.int v :: .ref (ad 1000) :: rest)) :=
  p_puti2 E.1.1 E.1.2.1 E.1.2.2.2.2 in_X1 tyX1 tyX1_ok E.1.2.2.2.1 hX.1 hP hS hA (hD.1 _ _ dX_1000) rfl 22 (by decide) (by decide +kernel) (E.1.2.2.2.2 _ q534) (fun _ h => h) rfl rfl hz hz2 rfl hσ hdg kk
theorem cx_X1_266_X3_knowns {rm : Room} {σ1 : Sto} {r : Int32} (E : EN p s m args meth c0 RX1 cc nL ret) (hX : KX D G ad A s s.heap) (hD : XD dsc nr nw nu) (hP : PIC D clsA G dsc ad σ H) (hS : va_S A s.heap H locs) (hA : ∀ q, PA dsc ad s.heap.size q → A q) (hM : CtG l D G dsc ad yX3_knowns (ws_ yX3_knowns cX3_knowns 1 (Option.some Jvm.ClassFile.FieldType.int)) rm [.ref (ad 2000)] σ (some (.int r)) σ1) (hz : rm.cells = 0 ∧ rm.slots = 0) (hR : rm.frames + 1 ≤ R.frames ∧ 8 + (1 + 11) + rm.locals ≤ R.locals) (hcs : cells ≤ R.cells ∧ slots ≤ R.slots) (hsz : ls.size = nL) (hW : (rest.map fun v => v.category).sum ≤ 8) (hdg : decode cc pc = .ok (.invokevirtual 266, 3)) (kk : ∀ (H1 : Heap) (locs1 : List Loc), PIC D clsA G dsc ad σ1 H1 → va_S A s.heap H1 locs1 → W p l e R s m args below meth c0 H1 locs1 cells slots Q (F0 m (pc + 3) ls (.int r :: rest))) : W p l e R s m args below meth c0 H locs cells slots Q (F0 m pc ls (.ref (ad 2000) :: rest)) :=
  p_gV (As := []) (rest := rest) E.1 hX hP hS hA hM (cwV 0 E.1.2.2.2.2 (lw_V q1235 q1028 q1029 q126 q1030) rfl hz.1 hz.2 (by decide +kernel) hR) (hD.1 _ _ dX_2000) rfl rfl rfl hsz rfl hW hdg hcs kk
theorem cx_X1_380_X5_notKnown_TB {rm : Room} {σ1 : Sto} {x1 : Int32} {r : Int32} (E : EN p s m args meth c0 RX1 cc nL ret) (hX : KX D G ad A s s.heap) (hD : XD dsc nr nw nu) (hP : PIC D clsA G dsc ad σ H) (hS : va_S A s.heap H locs) (hA : ∀ q, PA dsc ad s.heap.size q → A q) (hM : CtG l D G dsc ad yX5_notKnown (ws_ yX5_notKnown cX5_notKnown 4 (Option.some Jvm.ClassFile.FieldType.int)) rm [.ref (ad 1060), .int x1] σ (some (.int r)) σ1) (hz : rm.cells = 0 ∧ rm.slots = 0) (hR : rm.frames + 1 ≤ R.frames ∧ 8 + (4 + 11) + rm.locals ≤ R.locals) (hcs : cells ≤ R.cells ∧ slots ≤ R.slots) (hsz : ls.size = nL) (hW : (rest.map fun v => v.category).sum ≤ 8) (hdg : decode cc pc = .ok (.invokevirtual 380, 3)) (kk : ∀ (H1 : Heap) (locs1 : List Loc), PIC D clsA G dsc ad σ1 H1 → va_S A s.heap H1 locs1 → W p l e R s m args below meth c0 H1 locs1 cells slots Q (F0 m (pc + 3) ls (.int r :: rest))) : W p l e R s m args below meth c0 H locs cells slots Q (F0 m pc ls (.int x1 :: .ref (ad 1060) :: rest)) :=
  p_gU (As := [.int x1]) (rest := rest) E.1 hX hP hS hA hM (cw_any (owner := "ShutPasses$Table") (x := ⟨"ShutPasses$InMean", "notKnown", "(I)I"⟩) (y := yX5_notKnown) (C := "ShutPasses$InMean") (index := 380) (own := RX1) 1 E.1.2.2.2.2 (lw_meth q1059) rfl hz.1 hz.2 (E.1.2.2.2.2 _ q1450) (E.1.2.2.2.2 _ q1451) (va_Decl.of (E.1.2.2.2.2 _ q1054) (E.1.2.2.2.2 _ q1059)) (E.1.2.2.2.2 _ q1454) (E.1.2.2.2.2 _ q1054) (E.1.2.2.2.2 _ q131) (by decide +kernel) hR) (hD.1 _ _ dX_1060) rfl rfl rfl hsz rfl hW hdg hcs kk
theorem cx_X1_386_X1_inTime {rm : Room} {σ1 : Sto} {x1 : Int32} {x2 : Int32} {x3 : Int32} {r : Int64} (E : EN p s m args meth c0 RX1 cc nL ret) (hX : KX D G ad A s s.heap) (hD : XD dsc nr nw nu) (hP : PIC D clsA G dsc ad σ H) (hS : va_S A s.heap H locs) (hA : ∀ q, PA dsc ad s.heap.size q → A q) (hM : CtG l D G dsc ad yX1_inTime (ws_ yX1_inTime cX1_inTime 8 (Option.some Jvm.ClassFile.FieldType.long)) rm [.ref (ad 1000), .int x1, .int x2, .int x3] σ (some (.long r)) σ1) (hz : rm.cells = 0 ∧ rm.slots = 0) (hR : rm.frames + 1 ≤ R.frames ∧ 8 + (8 + 11) + rm.locals ≤ R.locals) (hcs : cells ≤ R.cells ∧ slots ≤ R.slots) (hsz : ls.size = nL) (hW : (rest.map fun v => v.category).sum ≤ 8) (hdg : decode cc pc = .ok (.invokevirtual 386, 3)) (kk : ∀ (H1 : Heap) (locs1 : List Loc), PIC D clsA G dsc ad σ1 H1 → va_S A s.heap H1 locs1 → W p l e R s m args below meth c0 H1 locs1 cells slots Q (F0 m (pc + 3) ls (.long r :: rest))) : W p l e R s m args below meth c0 H locs cells slots Q (F0 m pc ls (.int x3 :: .int x2 :: .int x1 :: .ref (ad 1000) :: rest)) :=
  p_gV (As := [.int x1, .int x2, .int x3]) (rest := rest) E.1 hX hP hS hA hM (cwV 3 E.1.2.2.2.2 (lw_V q1458 q1460 qs37 q124 q1461) rfl hz.1 hz.2 (by decide +kernel) hR) (hD.1 _ _ dX_1000) rfl rfl rfl hsz rfl hW hdg hcs kk
/-! X1_ring_3 ()V -/
def sgX1_ring_3 (σ : Sto) (w0 : Int32) (w1 : Nat → Int64) : Sto := aL (zI σ 1022 w0) 1126 w1
theorem sgX1_ring_3_self (σ : Sto) : sgX1_ring_3 σ (σ.1 1022) (σ.2.2.2.1 1126) = σ := by
  unfold sgX1_ring_3
  simp only [zI_self, zL_self, aI_self, aL_self]
theorem sgX1_ring_3_zI1022 {σ : Sto} {w0 : Int32} {w1 : Nat → Int64} {g : Int32} : zI (sgX1_ring_3 σ w0 w1) 1022 g = sgX1_ring_3 σ g w1 := (cm_zI_aL _ _ _ _ _).trans (congrArg (fun z => aL z 1126 w1) (zI_zI _ 1022 _ _))
theorem sgX1_ring_3_aL1126 {σ : Sto} {w0 : Int32} {w1 : Nat → Int64} {g : Nat → Int64} : aL (sgX1_ring_3 σ w0 w1) 1126 g = sgX1_ring_3 σ w0 g := aL_aL _ 1126 _ _
theorem sgX1_ring_3_rzI1022 {σ : Sto} {w0 : Int32} {w1 : Nat → Int64} : (sgX1_ring_3 σ w0 w1).1 1022 = w0 := rfl
theorem sgX1_ring_3_rzI2008 {σ : Sto} {w0 : Int32} {w1 : Nat → Int64} : (sgX1_ring_3 σ w0 w1).1 2008 = σ.1 2008 := rfl
theorem sgX1_ring_3_rzI2013 {σ : Sto} {w0 : Int32} {w1 : Nat → Int64} : (sgX1_ring_3 σ w0 w1).1 2013 = σ.1 2013 := rfl
theorem sgX1_ring_3_rzI2027 {σ : Sto} {w0 : Int32} {w1 : Nat → Int64} : (sgX1_ring_3 σ w0 w1).1 2027 = σ.1 2027 := rfl
theorem sgX1_ring_3_rzI2032 {σ : Sto} {w0 : Int32} {w1 : Nat → Int64} : (sgX1_ring_3 σ w0 w1).1 2032 = σ.1 2032 := rfl
theorem sgX1_ring_3_raI1170 {σ : Sto} {w0 : Int32} {w1 : Nat → Int64} : (sgX1_ring_3 σ w0 w1).2.2.1 1170 = σ.2.2.1 1170 := rfl
theorem sgX1_ring_3_raI2037 {σ : Sto} {w0 : Int32} {w1 : Nat → Int64} : (sgX1_ring_3 σ w0 w1).2.2.1 2037 = σ.2.2.1 2037 := rfl
theorem sgX1_ring_3_raI2043 {σ : Sto} {w0 : Int32} {w1 : Nat → Int64} : (sgX1_ring_3 σ w0 w1).2.2.1 2043 = σ.2.2.1 2043 := rfl
theorem sgX1_ring_3_raL1126 {σ : Sto} {w0 : Int32} {w1 : Nat → Int64} : (sgX1_ring_3 σ w0 w1).2.2.2.1 1126 = w1 := rfl
theorem sgX1_ring_3_raL1141 {σ : Sto} {w0 : Int32} {w1 : Nat → Int64} : (sgX1_ring_3 σ w0 w1).2.2.2.1 1141 = σ.2.2.2.1 1141 := rfl
theorem sgX1_ring_3_rpR2 {σ : Sto} {w0 : Int32} {w1 : Nat → Int64} : (fun k => (sgX1_ring_3 σ w0 w1).1 (6000 + 16 * k + 2)) = (fun k => σ.1 (6000 + 16 * k + 2)) := by
  funext k
  unfold sgX1_ring_3
  dsimp only [zI, zL, aI, aL]
  repeat rw [if_neg (by omega)]
theorem sgX1_ring_3_rpR5 {σ : Sto} {w0 : Int32} {w1 : Nat → Int64} : (fun k => (sgX1_ring_3 σ w0 w1).1 (6000 + 16 * k + 5)) = (fun k => σ.1 (6000 + 16 * k + 5)) := by
  funext k
  unfold sgX1_ring_3
  dsimp only [zI, zL, aI, aL]
  repeat rw [if_neg (by omega)]
theorem sgX1_ring_3_rpR6 {σ : Sto} {w0 : Int32} {w1 : Nat → Int64} : (fun k => (sgX1_ring_3 σ w0 w1).1 (6000 + 16 * k + 6)) = (fun k => σ.1 (6000 + 16 * k + 6)) := by
  funext k
  unfold sgX1_ring_3
  dsimp only [zI, zL, aI, aL]
  repeat rw [if_neg (by omega)]
theorem sgX1_ring_3_rpW0 {σ : Sto} {w0 : Int32} {w1 : Nat → Int64} : (fun k => (sgX1_ring_3 σ w0 w1).1 (8000 + 16 * k + 0)) = (fun k => σ.1 (8000 + 16 * k + 0)) := by
  funext k
  unfold sgX1_ring_3
  dsimp only [zI, zL, aI, aL]
  repeat rw [if_neg (by omega)]
theorem sgX1_ring_3_rpW1 {σ : Sto} {w0 : Int32} {w1 : Nat → Int64} : (fun k => (sgX1_ring_3 σ w0 w1).1 (8000 + 16 * k + 1)) = (fun k => σ.1 (8000 + 16 * k + 1)) := by
  funext k
  unfold sgX1_ring_3
  dsimp only [zI, zL, aI, aL]
  repeat rw [if_neg (by omega)]
theorem sgX1_ring_3_rpW2 {σ : Sto} {w0 : Int32} {w1 : Nat → Int64} : (fun k => (sgX1_ring_3 σ w0 w1).1 (8000 + 16 * k + 2)) = (fun k => σ.1 (8000 + 16 * k + 2)) := by
  funext k
  unfold sgX1_ring_3
  dsimp only [zI, zL, aI, aL]
  repeat rw [if_neg (by omega)]
theorem sgX1_ring_3_rgG0 {σ : Sto} {w0 : Int32} {w1 : Nat → Int64} : (fun k => (sgX1_ring_3 σ w0 w1).2.2.1 (4000 + 16 * k)) = (fun k => σ.2.2.1 (4000 + 16 * k)) := by
  funext k
  unfold sgX1_ring_3
  dsimp only [zI, zL, aI, aL]
  repeat rw [if_neg (by omega)]
abbrev rmX1_ring_3 : Room := { frames := 13, cells := 0, slots := 0, locals := 335 }
set_option maxHeartbeats 4000000 in
theorem wkX1_ring_3 {w_zI1022 : Int32} {w_aL1126 : Nat → Int64} (E : EN p s m args meth c0 RX1 cX1_ring_3 5 (Option.none : Option Jvm.ClassFile.FieldType)) (hX : KX D G ad A s s.heap) (hD : XD dsc nr nw nu) (hA : ∀ q, PA dsc ad s.heap.size q → A q) (hf : xo_X1_ring_3 (σ.1 1022) (σ.1 2008) (σ.1 2013) (σ.1 2027) (σ.1 2032) (σ.2.2.1 1170) (σ.2.2.1 2037) (σ.2.2.1 2043) (σ.2.2.2.1 1126) (σ.2.2.2.1 1141) nr nw (fun k => σ.1 (6000 + 16 * k + 2)) (fun k => σ.1 (6000 + 16 * k + 5)) (fun k => σ.1 (6000 + 16 * k + 6)) (fun k => σ.1 (8000 + 16 * k + 0)) (fun k => σ.1 (8000 + 16 * k + 1)) (fun k => σ.1 (8000 + 16 * k + 2)) (fun k => σ.2.2.1 (4000 + 16 * k)) = some (w_zI1022, w_aL1126)) (hQ : Q = MQ below (va_G1 none (fun t => PIC D clsA G dsc ad (sgX1_ring_3 σ w_zI1022 w_aL1126) t.heap) A) args s 0 0 A) (hP : PIC D clsA G dsc ad σ H) (hS : va_S A s.heap H locs) (hl : lv_has ls 5 [(0, .ref (ad 1000))]) : W p l e rmX1_ring_3 s m args below meth c0 H locs 0 0 Q (F0 m 0 ls []) := by
  obtain ⟨⟨hx, hb, hml, hown, hts⟩, hr, hlk⟩ := id E
  have hP := hP.to (sgX1_ring_3_self σ).symm
  unfold xo_X1_ring_3 at hf
  refine lv_aload_n hx hb dX1_ring_3_0 rfl (lv_at hl 0 rfl) ?_
  refine lv_iconst hx hb dX1_ring_3_1 ic_1 ?_
  refine ux_X1_181_1000 E hX hD hP hS (hA _ (PA_c (hD.1 _ _ dX_1000))) rfl rfl sgX1_ring_3_zI1022 dX1_ring_3_2 (fun H locs hP hS => ?_)
  refine lv_iconst hx hb dX1_ring_3_5 ic_0 ?_
  refine lv_istore_n (lv' := [(1, .int 0), (0, .ref (ad 1000))]) hx hb dX1_ring_3_6 rfl hl (by decide) rfl (fun ls hl => ?_)
  have LP7 : ∀ (st7 : Int32 × (Nat → Int64)) (ex7 : ((Nat → Int64))), loop (xo_X1_ring_3_L7 (σ.1 2008) (σ.1 2013) (σ.1 2027) (σ.1 2032) (σ.2.2.1 1170) (σ.2.2.1 2037) (σ.2.2.1 2043) (σ.2.2.2.1 1141) nr nw (fun k => σ.1 (6000 + 16 * k + 2)) (fun k => σ.1 (6000 + 16 * k + 5)) (fun k => σ.1 (6000 + 16 * k + 6)) (fun k => σ.1 (8000 + 16 * k + 0)) (fun k => σ.1 (8000 + 16 * k + 1)) (fun k => σ.1 (8000 + 16 * k + 2)) (fun k => σ.2.2.1 (4000 + 16 * k))) st7 = some ex7 → ∀ (H : Heap) (locs : List Loc), PIC D clsA G dsc ad (sgX1_ring_3 σ 1 (st7.2)) H → va_S A s.heap H locs → ∀ (ls : Array Slot), lv_has ls 5 [(0, .ref (ad 1000)), (1, .int (st7.1))] → (∀ (a42 : Nat → Int64), ex7 = a42 → ∀ (H : Heap) (locs : List Loc), PIC D clsA G dsc ad (sgX1_ring_3 σ 1 a42) H → va_S A s.heap H locs → ∀ (ls : Array Slot), lv_has ls 5 [] → W p l e rmX1_ring_3 s m args below meth c0 H locs 0 0 Q (F0 m 171 ls [])) → W p l e rmX1_ring_3 s m args below meth c0 H locs 0 0 Q (F0 m 7 ls []) := by
    refine loop_P (fun st7 ex7 o7 hf ih7 hx7 => ?_)
    obtain ⟨y1, a2⟩ := st7
    intro H locs (hP : PIC D clsA G dsc ad (sgX1_ring_3 σ 1 a2) H) hS ls (hl : lv_has ls 5 [(0, .ref (ad 1000)), (1, .int y1)]) KE7_0
    dsimp only [xo_X1_ring_3_L7] at hf
    refine lv_iload_n hx hb dX1_ring_3_7 rfl (lv_at hl 1 rfl) ?_
    refine lv_aload_n hx hb dX1_ring_3_8 rfl (lv_at hl 0 rfl) ?_
    refine gx_X1_33_1000 E hX hD hP dX1_ring_3_9 ?_
    refine gx_X1_246_2000 E hX hD hP dX1_ring_3_12 ?_
    obtain ⟨v3, u4, hf⟩ := bdP hf
    refine cx_X1_190_J2_size_Ld E hX hD hP hS hA (kxJ2_size_Ld l D G hD sgX1_ring_3_rzI2027 u4) ⟨rfl, rfl⟩ ⟨Nat.le_of_ble_eq_true rfl, Nat.le_of_ble_eq_true rfl⟩ ⟨Nat.zero_le _, Nat.zero_le _⟩ hl.1 (Nat.le_of_ble_eq_true rfl) dX1_ring_3_15 (fun H locs hP hS => ?_)
    refine lv_icmp_gt (tgt := 171) hx hb dX1_ring_3_18 (by decide) (fun c5 => ?_) (fun c5 => ?_)
    · have hf := ifT c5 hf
      exact KE7_0 _ (hx7 _ (Option.some.inj hf).symm).symm H locs hP hS ls (lv_sub hl [] rfl)
    · have hf := ifF c5 hf
      refine lv_iconst hx hb dX1_ring_3_21 ic_0 ?_
      refine lv_istore_n (lv' := [(2, .int 0), (0, .ref (ad 1000)), (1, .int y1)]) hx hb dX1_ring_3_22 rfl hl (by decide) rfl (fun ls hl => ?_)
      have LP23 : ∀ (st23 : Int32 × (Nat → Int64)) (ex23 : ((Nat → Int64))), loop (xo_X1_ring_3_L23 (σ.1 2008) (σ.1 2013) (σ.1 2027) (σ.1 2032) (σ.2.2.1 1170) (σ.2.2.1 2037) (σ.2.2.1 2043) (σ.2.2.2.1 1141) nr nw (fun k => σ.1 (6000 + 16 * k + 2)) (fun k => σ.1 (6000 + 16 * k + 5)) (fun k => σ.1 (6000 + 16 * k + 6)) (fun k => σ.1 (8000 + 16 * k + 0)) (fun k => σ.1 (8000 + 16 * k + 1)) (fun k => σ.1 (8000 + 16 * k + 2)) (fun k => σ.2.2.1 (4000 + 16 * k)) y1) st23 = some ex23 → ∀ (H : Heap) (locs : List Loc), PIC D clsA G dsc ad (sgX1_ring_3 σ 1 (st23.2)) H → va_S A s.heap H locs → ∀ (ls : Array Slot), lv_has ls 5 [(0, .ref (ad 1000)), (1, .int y1), (2, .int (st23.1))] → (∀ (a40 : Nat → Int64), ex23 = a40 → ∀ (H : Heap) (locs : List Loc), PIC D clsA G dsc ad (sgX1_ring_3 σ 1 a40) H → va_S A s.heap H locs → ∀ (ls : Array Slot), lv_has ls 5 [(0, .ref (ad 1000)), (1, .int y1)] → W p l e rmX1_ring_3 s m args below meth c0 H locs 0 0 Q (F0 m 165 ls [])) → W p l e rmX1_ring_3 s m args below meth c0 H locs 0 0 Q (F0 m 23 ls []) := by
        refine loop_P (fun st23 ex23 o23 hf ih23 hx23 => ?_)
        obtain ⟨y6, a7⟩ := st23
        intro H locs (hP : PIC D clsA G dsc ad (sgX1_ring_3 σ 1 a7) H) hS ls (hl : lv_has ls 5 [(0, .ref (ad 1000)), (1, .int y1), (2, .int y6)]) KE23_0
        dsimp only [xo_X1_ring_3_L23] at hf
        refine lv_iload_n hx hb dX1_ring_3_23 rfl (lv_at hl 2 rfl) ?_
        refine lv_aload_n hx hb dX1_ring_3_24 rfl (lv_at hl 0 rfl) ?_
        refine gx_X1_33_1000 E hX hD hP dX1_ring_3_25 ?_
        obtain ⟨v8, u9, hf⟩ := bdP hf
        refine cx_X1_266_X3_knowns E hX hD hP hS hA (kxX3_knowns l D G hD sgX1_ring_3_rzI2027 sgX1_ring_3_raI1170 u9) ⟨rfl, rfl⟩ ⟨Nat.le_of_ble_eq_true rfl, Nat.le_of_ble_eq_true rfl⟩ ⟨Nat.zero_le _, Nat.zero_le _⟩ hl.1 (Nat.le_of_ble_eq_true rfl) dX1_ring_3_28 (fun H locs hP hS => ?_)
        refine lv_icmp_ge (tgt := 165) hx hb dX1_ring_3_31 (by decide) (fun c10 => ?_) (fun c10 => ?_)
        · have hf := ifT c10 hf
          exact KE23_0 _ (hx23 _ (Option.some.inj hf).symm).symm H locs hP hS ls (lv_sub hl [0, 1] rfl)
        · have hf := ifF c10 hf
          refine lv_aload_n hx hb dX1_ring_3_34 rfl (lv_at hl 0 rfl) ?_
          refine gx_X1_40_1000 E hX hD hP dX1_ring_3_35 ?_
          refine gx_X1_284_1050 E hX hD hP dX1_ring_3_38 ?_
          refine lv_iload_n hx hb dX1_ring_3_41 rfl (lv_at hl 2 rfl) ?_
          obtain ⟨v11, hv11, hf⟩ := bdP hf
          refine p_lald hx hb hX.1 hP (hD.1 _ _ dX_1141) sgX1_ring_3_raL1141 hv11 dX1_ring_3_42 ?_
          refine lv_lconst hx hb dX1_ring_3_43 lc_0 ?_
          refine W.lcmp hx hb dX1_ring_3_44 ?_
          have J159 : ∀ (a12 : Nat → Int64), xo_X1_ring_3_J159 y6 a12 = some o23 → ∀ (H : Heap) (locs : List Loc), PIC D clsA G dsc ad (sgX1_ring_3 σ 1 a12) H → va_S A s.heap H locs → ∀ (ls : Array Slot), lv_has ls 5 [(0, .ref (ad 1000)), (1, .int y1), (2, .int y6)] → W p l e rmX1_ring_3 s m args below meth c0 H locs 0 0 Q (F0 m 159 ls []) := by
            intro a12 hf H locs hP hS ls hl
            unfold xo_X1_ring_3_J159 at hf
            obtain ⟨v13, hv13, hf⟩ := bdP hf
            refine lv_iinc (v := v13) (lv' := [(2, .int v13), (0, .ref (ad 1000)), (1, .int y1)]) hx hb dX1_ring_3_159 hl (k := 2) rfl (Option.some.inj hv13) (by decide) rfl (fun ls hl => ?_)
            refine lv_goto (tgt := 23) hx hb dX1_ring_3_162 (by decide) ?_
            exact ih23 _ (Option.some.inj hf).symm H locs hP hS ls (lv_sub hl [1, 2, 0] rfl) KE23_0
          refine lv_if_eq (tgt := 159) hx hb dX1_ring_3_45 (by decide) (fun c14 => ?_) (fun c14 => ?_)
          · have hf := ifT ((lgc_eq _ _).mp c14) hf
            exact J159 a7 hf H locs hP hS ls (lv_sub hl [0, 1, 2] rfl)
          · have hf := ifF (mt (lgc_eq _ _).mpr c14) hf
            refine lv_aload_n hx hb dX1_ring_3_48 rfl (lv_at hl 0 rfl) ?_
            refine gx_X1_53_1000 E hX hD hP dX1_ring_3_49 ?_
            refine lv_iload_n hx hb dX1_ring_3_52 rfl (lv_at hl 2 rfl) ?_
            obtain ⟨v15, u16, hf⟩ := bdP hf
            refine cx_X1_380_X5_notKnown_TB E hX hD hP hS hA (kxX5_notKnown_TB l D G hD sgX1_ring_3_rzI2027 sgX1_ring_3_raI1170 u16) ⟨rfl, rfl⟩ ⟨Nat.le_of_ble_eq_true rfl, Nat.le_of_ble_eq_true rfl⟩ ⟨Nat.zero_le _, Nat.zero_le _⟩ hl.1 (Nat.le_of_ble_eq_true rfl) dX1_ring_3_53 (fun H locs hP hS => ?_)
            refine lv_iload_n hx hb dX1_ring_3_56 rfl (lv_at hl 1 rfl) ?_
            refine lv_icmp_eq (tgt := 63) hx hb dX1_ring_3_57 (by decide) (fun c17 => ?_) (fun c17 => ?_)
            · have hf := ifT c17 hf
              refine lv_iconst hx hb dX1_ring_3_63 ic_0 ?_
              refine lv_istore_n (lv' := [(3, .int 0), (0, .ref (ad 1000)), (1, .int y1), (2, .int y6)]) hx hb dX1_ring_3_64 rfl hl (by decide) rfl (fun ls hl => ?_)
              have LP65 : ∀ (st65 : Int32 × (Nat → Int64)) (ex65 : ((Nat → Int64))), loop (xo_X1_ring_3_L65 (σ.1 2008) (σ.1 2013) (σ.1 2027) (σ.1 2032) (σ.2.2.1 1170) (σ.2.2.1 2037) (σ.2.2.1 2043) (σ.2.2.2.1 1141) nr nw (fun k => σ.1 (6000 + 16 * k + 2)) (fun k => σ.1 (6000 + 16 * k + 5)) (fun k => σ.1 (6000 + 16 * k + 6)) (fun k => σ.1 (8000 + 16 * k + 0)) (fun k => σ.1 (8000 + 16 * k + 1)) (fun k => σ.1 (8000 + 16 * k + 2)) (fun k => σ.2.2.1 (4000 + 16 * k)) y6) st65 = some ex65 → ∀ (H : Heap) (locs : List Loc), PIC D clsA G dsc ad (sgX1_ring_3 σ 1 (st65.2)) H → va_S A s.heap H locs → ∀ (ls : Array Slot), lv_has ls 5 [(0, .ref (ad 1000)), (1, .int y1), (2, .int y6), (3, .int (st65.1))] → (∀ (a39 : Nat → Int64), ex65 = a39 → ∀ (H : Heap) (locs : List Loc), PIC D clsA G dsc ad (sgX1_ring_3 σ 1 a39) H → va_S A s.heap H locs → ∀ (ls : Array Slot), lv_has ls 5 [(0, .ref (ad 1000)), (1, .int y1), (2, .int y6)] → W p l e rmX1_ring_3 s m args below meth c0 H locs 0 0 Q (F0 m 159 ls [])) → W p l e rmX1_ring_3 s m args below meth c0 H locs 0 0 Q (F0 m 65 ls []) := by
                refine loop_P (fun st65 ex65 o65 hf ih65 hx65 => ?_)
                obtain ⟨y18, a19⟩ := st65
                intro H locs (hP : PIC D clsA G dsc ad (sgX1_ring_3 σ 1 a19) H) hS ls (hl : lv_has ls 5 [(0, .ref (ad 1000)), (1, .int y1), (2, .int y6), (3, .int y18)]) KE65_0
                dsimp only [xo_X1_ring_3_L65] at hf
                refine lv_iload_n hx hb dX1_ring_3_65 rfl (lv_at hl 3 rfl) ?_
                refine lv_bipush hx hb dX1_ring_3_66 bp_48 ?_
                refine lv_icmp_gt (tgt := 159) hx hb dX1_ring_3_68 (by decide) (fun c20 => ?_) (fun c20 => ?_)
                · have hf := ifT c20 hf
                  exact KE65_0 _ (hx65 _ (Option.some.inj hf).symm).symm H locs hP hS ls (lv_sub hl [0, 1, 2] rfl)
                · have hf := ifF c20 hf
                  refine lv_iconst hx hb dX1_ring_3_71 ic_0 ?_
                  refine lv_istore (lv' := [(4, .int 0), (0, .ref (ad 1000)), (1, .int y1), (2, .int y6), (3, .int y18)]) hx hb dX1_ring_3_72 hl (by decide) rfl (fun ls hl => ?_)
                  have LP74 : ∀ (st74 : Int32 × (Nat → Int64)) (ex74 : ((Nat → Int64))), loop (xo_X1_ring_3_L74 (σ.1 2008) (σ.1 2013) (σ.1 2027) (σ.1 2032) (σ.2.2.1 1170) (σ.2.2.1 2037) (σ.2.2.1 2043) (σ.2.2.2.1 1141) nr nw (fun k => σ.1 (6000 + 16 * k + 2)) (fun k => σ.1 (6000 + 16 * k + 5)) (fun k => σ.1 (6000 + 16 * k + 6)) (fun k => σ.1 (8000 + 16 * k + 0)) (fun k => σ.1 (8000 + 16 * k + 1)) (fun k => σ.1 (8000 + 16 * k + 2)) (fun k => σ.2.2.1 (4000 + 16 * k)) y6 y18) st74 = some ex74 → ∀ (H : Heap) (locs : List Loc), PIC D clsA G dsc ad (sgX1_ring_3 σ 1 (st74.2)) H → va_S A s.heap H locs → ∀ (ls : Array Slot), lv_has ls 5 [(0, .ref (ad 1000)), (1, .int y1), (2, .int y6), (3, .int y18), (4, .int (st74.1))] → (∀ (a37 : Nat → Int64), ex74 = a37 → ∀ (H : Heap) (locs : List Loc), PIC D clsA G dsc ad (sgX1_ring_3 σ 1 a37) H → va_S A s.heap H locs → ∀ (ls : Array Slot), lv_has ls 5 [(0, .ref (ad 1000)), (1, .int y1), (2, .int y6), (3, .int y18)] → W p l e rmX1_ring_3 s m args below meth c0 H locs 0 0 Q (F0 m 153 ls [])) → W p l e rmX1_ring_3 s m args below meth c0 H locs 0 0 Q (F0 m 74 ls []) := by
                    refine loop_P (fun st74 ex74 o74 hf ih74 hx74 => ?_)
                    obtain ⟨y21, a22⟩ := st74
                    intro H locs (hP : PIC D clsA G dsc ad (sgX1_ring_3 σ 1 a22) H) hS ls (hl : lv_has ls 5 [(0, .ref (ad 1000)), (1, .int y1), (2, .int y6), (3, .int y18), (4, .int y21)]) KE74_0
                    dsimp only [xo_X1_ring_3_L74] at hf
                    refine lv_iload hx hb dX1_ring_3_74 (lv_at hl 4 rfl) ?_
                    refine lv_aload_n hx hb dX1_ring_3_76 rfl (lv_at hl 0 rfl) ?_
                    refine gx_X1_33_1000 E hX hD hP dX1_ring_3_77 ?_
                    refine gx_X1_268_2000 (v := (σ.1 2008)) E hX hD hP sgX1_ring_3_rzI2008 dX1_ring_3_80 ?_
                    refine lv_icmp_ge (tgt := 153) hx hb dX1_ring_3_83 (by decide) (fun c23 => ?_) (fun c23 => ?_)
                    · have hf := ifT c23 hf
                      exact KE74_0 _ (hx74 _ (Option.some.inj hf).symm).symm H locs hP hS ls (lv_sub hl [0, 1, 2, 3] rfl)
                    · have hf := ifF c23 hf
                      refine lv_aload_n hx hb dX1_ring_3_86 rfl (lv_at hl 0 rfl) ?_
                      refine gx_X1_124_1000 E hX hD hP dX1_ring_3_87 ?_
                      refine lv_iload hx hb dX1_ring_3_90 (lv_at hl 4 rfl) ?_
                      refine lv_iload_n hx hb dX1_ring_3_92 rfl (lv_at hl 2 rfl) ?_
                      refine lv_iload_n hx hb dX1_ring_3_93 rfl (lv_at hl 3 rfl) ?_
                      obtain ⟨v24, u25, hf⟩ := bdP hf
                      refine cx_X1_383_X1_cell E hX hD hP hS hA (kxX1_cell l D G hD u25) ⟨rfl, rfl⟩ ⟨Nat.le_of_ble_eq_true rfl, Nat.le_of_ble_eq_true rfl⟩ ⟨Nat.zero_le _, Nat.zero_le _⟩ hl.1 (Nat.le_of_ble_eq_true rfl) dX1_ring_3_94 (fun H locs hP hS => ?_)
                      refine lv_iload hx hb dX1_ring_3_97 (lv_at hl 4 rfl) ?_
                      refine lv_aload_n hx hb dX1_ring_3_99 rfl (lv_at hl 0 rfl) ?_
                      refine gx_X1_33_1000 E hX hD hP dX1_ring_3_100 ?_
                      refine gx_X1_256_2000 (v := (σ.1 2013)) E hX hD hP sgX1_ring_3_rzI2013 dX1_ring_3_103 ?_
                      have J146 : ∀ (k26 : Int64) (k27 : Int32), xo_X1_ring_3_J146 y21 a22 k26 k27 = some o74 → ∀ (H : Heap) (locs : List Loc), PIC D clsA G dsc ad (sgX1_ring_3 σ 1 a22) H → va_S A s.heap H locs → ∀ (ls : Array Slot), lv_has ls 5 [(0, .ref (ad 1000)), (1, .int y1), (2, .int y6), (3, .int y18), (4, .int y21)] → W p l e rmX1_ring_3 s m args below meth c0 H locs 0 0 Q (F0 m 146 ls [.long k26, .int k27, .ref (ad 1126)]) := by
                        intro k26 k27 hf H locs hP hS ls hl
                        unfold xo_X1_ring_3_J146 at hf
                        obtain ⟨a28, ha28, hf⟩ := bdP hf
                        refine p_last hx hb hX.1 hP hS (hA _ (PA_c (hD.1 _ _ dX_1126))) (hD.1 _ _ dX_1126) sgX1_ring_3_raL1126 ha28 sgX1_ring_3_aL1126 dX1_ring_3_146 (fun H locs hP hS => ?_)
                        obtain ⟨v29, hv29, hf⟩ := bdP hf
                        refine lv_iinc (v := v29) (lv' := [(4, .int v29), (0, .ref (ad 1000)), (1, .int y1), (2, .int y6), (3, .int y18)]) hx hb dX1_ring_3_147 hl (k := 4) rfl (Option.some.inj hv29) (by decide) rfl (fun ls hl => ?_)
                        refine lv_goto (tgt := 74) hx hb dX1_ring_3_150 (by decide) ?_
                        exact ih74 _ (Option.some.inj hf).symm H locs hP hS ls (lv_sub hl [1, 2, 3, 4, 0] rfl) KE74_0
                      refine lv_icmp_ne (tgt := 121) hx hb dX1_ring_3_106 (by decide) (fun c30 => ?_) (fun c30 => ?_)
                      · have hf := ifF c30 hf
                        refine lv_aload_n hx hb dX1_ring_3_121 rfl (lv_at hl 0 rfl) ?_
                        refine gx_X1_33_1000 E hX hD hP dX1_ring_3_122 ?_
                        refine lv_iload hx hb dX1_ring_3_125 (lv_at hl 4 rfl) ?_
                        refine lv_iload_n hx hb dX1_ring_3_127 rfl (lv_at hl 2 rfl) ?_
                        obtain ⟨v31, u32, hf⟩ := bdP hf
                        refine cx_X1_333_X3_unseen E hX hD hP hS hA (kxX3_unseen l D G hD sgX1_ring_3_rzI2027 sgX1_ring_3_raI1170 sgX1_ring_3_raI2043 u32) ⟨rfl, rfl⟩ ⟨Nat.le_of_ble_eq_true rfl, Nat.le_of_ble_eq_true rfl⟩ ⟨Nat.zero_le _, Nat.zero_le _⟩ hl.1 (Nat.le_of_ble_eq_true rfl) dX1_ring_3_128 (fun H locs hP hS => ?_)
                        refine lv_if_ne (tgt := 145) hx hb dX1_ring_3_131 (by decide) (fun c33 => ?_) (fun c33 => ?_)
                        · have hf := ifF c33 hf
                          refine lv_lconst hx hb dX1_ring_3_145 lc_0 ?_
                          exact J146 0 v24 hf H locs hP hS ls (lv_sub hl [0, 1, 2, 3, 4] rfl)
                        · have hf := ifT c33 hf
                          refine lv_aload_n hx hb dX1_ring_3_134 rfl (lv_at hl 0 rfl) ?_
                          refine lv_iload hx hb dX1_ring_3_135 (lv_at hl 4 rfl) ?_
                          refine lv_iload_n hx hb dX1_ring_3_137 rfl (lv_at hl 2 rfl) ?_
                          refine lv_iload_n hx hb dX1_ring_3_138 rfl (lv_at hl 3 rfl) ?_
                          obtain ⟨v34, u35, hf⟩ := bdP hf
                          refine cx_X1_386_X1_inTime E hX hD hP hS hA (kxX1_inTime l D G hD sgX1_ring_3_rzI2008 sgX1_ring_3_rzI2013 sgX1_ring_3_rzI2027 sgX1_ring_3_rzI2032 sgX1_ring_3_raI1170 sgX1_ring_3_raI2037 sgX1_ring_3_raI2043 sgX1_ring_3_raL1126 sgX1_ring_3_raL1141 rfl rfl sgX1_ring_3_rpR2 sgX1_ring_3_rpR5 sgX1_ring_3_rpR6 sgX1_ring_3_rpW0 sgX1_ring_3_rpW1 sgX1_ring_3_rpW2 sgX1_ring_3_rgG0 u35) ⟨rfl, rfl⟩ ⟨Nat.le_of_ble_eq_true rfl, Nat.le_of_ble_eq_true rfl⟩ ⟨Nat.zero_le _, Nat.zero_le _⟩ hl.1 (Nat.le_of_ble_eq_true rfl) dX1_ring_3_139 (fun H locs hP hS => ?_)
                          refine lv_goto (tgt := 146) hx hb dX1_ring_3_142 (by decide) ?_
                          exact J146 v34 v24 hf H locs hP hS ls (lv_sub hl [0, 1, 2, 3, 4] rfl)
                      · have hf := ifT c30 hf
                        refine lv_aload_n hx hb dX1_ring_3_109 rfl (lv_at hl 0 rfl) ?_
                        refine gx_X1_40_1000 E hX hD hP dX1_ring_3_110 ?_
                        refine gx_X1_284_1050 E hX hD hP dX1_ring_3_113 ?_
                        refine lv_iload_n hx hb dX1_ring_3_116 rfl (lv_at hl 2 rfl) ?_
                        obtain ⟨v36, hv36, hf⟩ := bdP hf
                        refine p_lald hx hb hX.1 hP (hD.1 _ _ dX_1141) sgX1_ring_3_raL1141 hv36 dX1_ring_3_117 ?_
                        refine lv_goto (tgt := 146) hx hb dX1_ring_3_118 (by decide) ?_
                        exact J146 v36 v24 hf H locs hP hS ls (lv_sub hl [0, 1, 2, 3, 4] rfl)
                  obtain ⟨ex74, hlp74, hf⟩ := bdP hf
                  refine LP74 (0, a19) ex74 hlp74 H locs hP hS ls (lv_sub hl [1, 2, 3, 4, 0] rfl) ?_
                  intro a37 hex74 H locs hP hS ls hl
                  subst ex74
                  obtain ⟨v38, hv38, hf⟩ := bdP hf
                  refine lv_iinc (v := v38) (lv' := [(3, .int v38), (0, .ref (ad 1000)), (1, .int y1), (2, .int y6)]) hx hb dX1_ring_3_153 hl (k := 3) rfl (Option.some.inj hv38) (by decide) rfl (fun ls hl => ?_)
                  refine lv_goto (tgt := 65) hx hb dX1_ring_3_156 (by decide) ?_
                  exact ih65 _ (Option.some.inj hf).symm H locs hP hS ls (lv_sub hl [1, 2, 3, 0] rfl) KE65_0
              obtain ⟨ex65, hlp65, hf⟩ := bdP hf
              refine LP65 (0, a7) ex65 hlp65 H locs hP hS ls (lv_sub hl [1, 2, 3, 0] rfl) ?_
              intro a39 hex65 H locs hP hS ls hl
              subst ex65
              exact J159 a39 hf H locs hP hS ls (lv_sub hl [0, 1, 2] rfl)
            · have hf := ifF c17 hf
              refine lv_goto (tgt := 159) hx hb dX1_ring_3_60 (by decide) ?_
              exact J159 a7 hf H locs hP hS ls (lv_sub hl [0, 1, 2] rfl)
      obtain ⟨ex23, hlp23, hf⟩ := bdP hf
      refine LP23 (0, a2) ex23 hlp23 H locs hP hS ls (lv_sub hl [1, 2, 0] rfl) ?_
      intro a40 hex23 H locs hP hS ls hl
      subst ex23
      obtain ⟨v41, hv41, hf⟩ := bdP hf
      refine lv_iinc (v := v41) (lv' := [(1, .int v41), (0, .ref (ad 1000))]) hx hb dX1_ring_3_165 hl (k := 1) rfl (Option.some.inj hv41) (by decide) rfl (fun ls hl => ?_)
      refine lv_goto (tgt := 7) hx hb dX1_ring_3_168 (by decide) ?_
      exact ih7 _ (Option.some.inj hf).symm H locs hP hS ls (lv_sub hl [1, 0] rfl) KE7_0
  obtain ⟨ex7, hlp7, hf⟩ := bdP hf
  refine LP7 (0, (σ.2.2.2.1 1126)) ex7 hlp7 H locs hP hS ls (lv_sub hl [1, 0] rfl) ?_
  intro a42 hex7 H locs hP hS ls hl
  subst ex7
  cases hf
  rw [hQ]; exact g_vret hx hb hr hlk hP hS dX1_ring_3_171
theorem kxX1_ring_3 (l : Launch) (D : va_G) (G : Nat → ClassId) {dsc : Nat → Option Dsc} {ad : Nat → Nat} {σ : Sto} {nr nw nu : Nat} (hD : XD dsc nr nw nu) {w_zI1022 : Int32} {w_aL1126 : Nat → Int64} {z_X_hasBell : Int32} (e_zI1022 : σ.1 1022 = z_X_hasBell) {z_L_places : Int32} (e_zI2008 : σ.1 2008 = z_L_places) {z_L_to : Int32} (e_zI2013 : σ.1 2013 = z_L_to) {z_Ld_size : Int32} (e_zI2027 : σ.1 2027 = z_Ld_size) {z_Lw_size : Int32} (e_zI2032 : σ.1 2032 = z_Lw_size) {a_UNIT : Nat → Int32} (e_aI1170 : σ.2.2.1 1170 = a_UNIT) {a_Lw_data : Nat → Int32} (e_aI2037 : σ.2.2.1 2037 = a_Lw_data) {a_L_seen : Nat → Int32} (e_aI2043 : σ.2.2.1 2043 = a_L_seen) {a_X_sums : Nat → Int64} (e_aL1126 : σ.2.2.2.1 1126 = a_X_sums) {a_W_likely : Nat → Int64} (e_aL1141 : σ.2.2.2.1 1141 = a_W_likely) {n_r : Nat} (e_nN0 : nr = n_r) {n_w : Nat} (e_nN1 : nw = n_w) {p_road_hours : Nat → Int32} (e_pR2 : (fun k => σ.1 (6000 + 16 * k + 2)) = p_road_hours) {p_road_wait : Nat → Int32} (e_pR5 : (fun k => σ.1 (6000 + 16 * k + 5)) = p_road_wait) {p_road_number : Nat → Int32} (e_pR6 : (fun k => σ.1 (6000 + 16 * k + 6)) = p_road_number) {p_word_place : Nat → Int32} (e_pW0 : (fun k => σ.1 (8000 + 16 * k + 0)) = p_word_place) {p_word_road : Nat → Int32} (e_pW1 : (fun k => σ.1 (8000 + 16 * k + 1)) = p_word_road) {p_word_hours : Nat → Int32} (e_pW2 : (fun k => σ.1 (8000 + 16 * k + 2)) = p_word_hours) {g_grid : Nat → Nat → Int32} (e_gG0 : (fun k => σ.2.2.1 (4000 + 16 * k)) = g_grid) (hf : xo_X1_ring_3 z_X_hasBell z_L_places z_L_to z_Ld_size z_Lw_size a_UNIT a_Lw_data a_L_seen a_X_sums a_W_likely n_r n_w p_road_hours p_road_wait p_road_number p_word_place p_word_road p_word_hours g_grid = some (w_zI1022, w_aL1126)) : CtG l D G dsc ad yX1_ring_3 (ws_ yX1_ring_3 cX1_ring_3 5 (Option.none : Option Jvm.ClassFile.FieldType)) rmX1_ring_3 [.ref (ad 1000)] σ none (aL (zI σ 1022 w_zI1022) 1126 w_aL1126) := by
  subst e_zI1022
  subst e_zI2008
  subst e_zI2013
  subst e_zI2027
  subst e_zI2032
  subst e_aI1170
  subst e_aI2037
  subst e_aI2043
  subst e_aL1126
  subst e_aL1141
  subst e_nN0
  subst e_nN1
  subst e_pR2
  subst e_pR5
  subst e_pR6
  subst e_pW0
  subst e_pW1
  subst e_pW2
  subst e_gG0
  exact p_ctG (by decide +kernel) (Nat.le_of_ble_eq_true rfl) (fun p e s m below meth c0 ls A E hP hX hA hS hl => wkX1_ring_3 E hX hD hA hf rfl hP hS hl)
theorem cx_X1_143_X1_in {rm : Room} {σ1 : Sto} {x0 : Int32} {x1 : Int32} {x2 : Int32} {r : Int32} (E : EN p s m args meth c0 RX1 cc nL ret) (hX : KX D G ad A s s.heap) (hD : XD dsc nr nw nu) (hP : PIC D clsA G dsc ad σ H) (hS : va_S A s.heap H locs) (hA : ∀ q, PA dsc ad s.heap.size q → A q) (hM : CtG l D G dsc ad yX1_in (ws_ yX1_in cX1_in 3 (Option.some Jvm.ClassFile.FieldType.boolean)) rm [.int x0, .int x1, .int x2] σ (some (.int r)) σ1) (hz : rm.cells = 0 ∧ rm.slots = 0) (hR : rm.frames + 1 ≤ R.frames ∧ 8 + (3 + 11) + rm.locals ≤ R.locals) (hcs : cells ≤ R.cells ∧ slots ≤ R.slots) (hsz : ls.size = nL) (hW : (rest.map fun v => v.category).sum ≤ 8) (hdg : decode cc pc = .ok (.invokestatic 143, 3)) (kk : ∀ (H1 : Heap) (locs1 : List Loc), PIC D clsA G dsc ad σ1 H1 → va_S A s.heap H1 locs1 → W p l e R s m args below meth c0 H1 locs1 cells slots Q (F0 m (pc + 3) ls (.int r :: rest))) : W p l e R s m args below meth c0 H locs cells slots Q (F0 m pc ls (.int x2 :: .int x1 :: .int x0 :: rest)) :=
  p_gS (As := [.int x0, .int x1, .int x2]) (rest := rest) E.1 hX hP hS hA hM (va_cwS 3 E.1.2.2.2.2 (lw_S q625 q626 q124 q627) rfl hz.1 hz.2 (by decide +kernel) hR) rfl hsz rfl hW hdg hcs kk
theorem cx_X1_276_X1_lay {rm : Room} {σ1 : Sto} (E : EN p s m args meth c0 RX1 cc nL ret) (hX : KX D G ad A s s.heap) (hD : XD dsc nr nw nu) (hP : PIC D clsA G dsc ad σ H) (hS : va_S A s.heap H locs) (hA : ∀ q, PA dsc ad s.heap.size q → A q) (hM : CtG l D G dsc ad yX1_lay (ws_ yX1_lay cX1_lay 2 (Option.none : Option Jvm.ClassFile.FieldType)) rm [.ref (ad 1000)] σ none σ1) (hz : rm.cells = 0 ∧ rm.slots = 0) (hR : rm.frames + 1 ≤ R.frames ∧ 8 + (2 + 11) + rm.locals ≤ R.locals) (hcs : cells ≤ R.cells ∧ slots ≤ R.slots) (hsz : ls.size = nL) (hW : (rest.map fun v => v.category).sum ≤ 8) (hdg : decode cc pc = .ok (.invokevirtual 276, 3)) (kk : ∀ (H1 : Heap) (locs1 : List Loc), PIC D clsA G dsc ad σ1 H1 → va_S A s.heap H1 locs1 → W p l e R s m args below meth c0 H1 locs1 cells slots Q (F0 m (pc + 3) ls (rest))) : W p l e R s m args below meth c0 H locs cells slots Q (F0 m pc ls (.ref (ad 1000) :: rest)) :=
  p_gV (As := []) (rest := rest) E.1 hX hP hS hA hM (cwV 0 E.1.2.2.2.2 (lw_V q997 q999 qs21 q124 q1000) rfl hz.1 hz.2 (by decide +kernel) hR) (hD.1 _ _ dX_1000) rfl rfl rfl hsz rfl hW hdg hcs kk
theorem gx_X1_181_1000 {v : Int32} (E : EN p s m args meth c0 RX1 cc nL ret) (hX : KX D G ad A s s.heap) (hD : XD dsc nr nw nu) (hP : PIC D clsA G dsc ad σ H) (hv : σ.1 1022 = v) (hdg : decode cc pc = .ok (.getfield 181, 3)) (kk : W p l e R s m args below meth c0 H locs cells slots Q (F0 m (pc + 3) ls (.int v :: rest))) : W p l e R s m args below meth c0 H locs cells slots Q (F0 m pc ls (.ref (ad 1000) :: rest)) :=
  p_get E.1.1 E.1.2.1 E.1.2.2.2.2 in_X1 E.1.2.2.2.1 hX.1 hP (hD.1 _ _ dX_1000) rfl 22 (by decide) (E.1.2.2.2.2 _ q534) (fun _ h => h) rfl (congrArg Value.int hv) hdg kk
theorem cx_X1_413_X1_ring_3 {rm : Room} {σ1 : Sto} (E : EN p s m args meth c0 RX1 cc nL ret) (hX : KX D G ad A s s.heap) (hD : XD dsc nr nw nu) (hP : PIC D clsA G dsc ad σ H) (hS : va_S A s.heap H locs) (hA : ∀ q, PA dsc ad s.heap.size q → A q) (hM : CtG l D G dsc ad yX1_ring_3 (ws_ yX1_ring_3 cX1_ring_3 5 (Option.none : Option Jvm.ClassFile.FieldType)) rm [.ref (ad 1000)] σ none σ1) (hz : rm.cells = 0 ∧ rm.slots = 0) (hR : rm.frames + 1 ≤ R.frames ∧ 8 + (5 + 11) + rm.locals ≤ R.locals) (hcs : cells ≤ R.cells ∧ slots ≤ R.slots) (hsz : ls.size = nL) (hW : (rest.map fun v => v.category).sum ≤ 8) (hdg : decode cc pc = .ok (.invokevirtual 413, 3)) (kk : ∀ (H1 : Heap) (locs1 : List Loc), PIC D clsA G dsc ad σ1 H1 → va_S A s.heap H1 locs1 → W p l e R s m args below meth c0 H1 locs1 cells slots Q (F0 m (pc + 3) ls (rest))) : W p l e R s m args below meth c0 H locs cells slots Q (F0 m pc ls (.ref (ad 1000) :: rest)) :=
  p_gV (As := []) (rest := rest) E.1 hX hP hS hA hM (cwV 0 E.1.2.2.2.2 (lw_V q1446 q1448 qs36 q124 q1449) rfl hz.1 hz.2 (by decide +kernel) hR) (hD.1 _ _ dX_1000) rfl rfl rfl hsz rfl hW hdg hcs kk
/-! X1_bell (I)J -/
def sgX1_bell (σ : Sto) (w0 : Int32) (w1 : Int32) (w2 : Int32) (w3 : Int32) (w4 : Int64) (w5 : Nat → Int32) (w6 : Nat → Int32) (w7 : Nat → Int64) (w8 : Nat → Int64) (w9 : Nat → Int64) (w10 : Nat → Int64) (w11 : Nat → Int64) : Sto := aL (aL (aL (aL (aL (aI (aI (zL (zI (zI (zI (zI σ 1018 w0) 1022 w1) 1062 w2) 1082 w3) 1052 w4) 1108 w5) 1162 w6) 1126 w7) 1140 w8) 1141 w9) 1150 w10) 1152 w11
theorem sgX1_bell_self (σ : Sto) : sgX1_bell σ (σ.1 1018) (σ.1 1022) (σ.1 1062) (σ.1 1082) (σ.2.1 1052) (σ.2.2.1 1108) (σ.2.2.1 1162) (σ.2.2.2.1 1126) (σ.2.2.2.1 1140) (σ.2.2.2.1 1141) (σ.2.2.2.1 1150) (σ.2.2.2.1 1152) = σ := by
  unfold sgX1_bell
  simp only [zI_self, zL_self, aI_self, aL_self]
theorem sgX1_bell_zI1018 {σ : Sto} {w0 : Int32} {w1 : Int32} {w2 : Int32} {w3 : Int32} {w4 : Int64} {w5 : Nat → Int32} {w6 : Nat → Int32} {w7 : Nat → Int64} {w8 : Nat → Int64} {w9 : Nat → Int64} {w10 : Nat → Int64} {w11 : Nat → Int64} {g : Int32} : zI (sgX1_bell σ w0 w1 w2 w3 w4 w5 w6 w7 w8 w9 w10 w11) 1018 g = sgX1_bell σ g w1 w2 w3 w4 w5 w6 w7 w8 w9 w10 w11 := (cm_zI_aL _ _ _ _ _).trans (congrArg (fun z => aL z 1152 w11) ((cm_zI_aL _ _ _ _ _).trans (congrArg (fun z => aL z 1150 w10) ((cm_zI_aL _ _ _ _ _).trans (congrArg (fun z => aL z 1141 w9) ((cm_zI_aL _ _ _ _ _).trans (congrArg (fun z => aL z 1140 w8) ((cm_zI_aL _ _ _ _ _).trans (congrArg (fun z => aL z 1126 w7) ((cm_zI_aI _ _ _ _ _).trans (congrArg (fun z => aI z 1162 w6) ((cm_zI_aI _ _ _ _ _).trans (congrArg (fun z => aI z 1108 w5) ((cm_zI_zL _ _ _ _ _).trans (congrArg (fun z => zL z 1052 w4) ((zI_comm _ (by decide) _ _).trans (congrArg (fun z => zI z 1082 w3) ((zI_comm _ (by decide) _ _).trans (congrArg (fun z => zI z 1062 w2) ((zI_comm _ (by decide) _ _).trans (congrArg (fun z => zI z 1022 w1) (zI_zI _ 1018 _ _))))))))))))))))))))))
theorem sgX1_bell_zI1022 {σ : Sto} {w0 : Int32} {w1 : Int32} {w2 : Int32} {w3 : Int32} {w4 : Int64} {w5 : Nat → Int32} {w6 : Nat → Int32} {w7 : Nat → Int64} {w8 : Nat → Int64} {w9 : Nat → Int64} {w10 : Nat → Int64} {w11 : Nat → Int64} {g : Int32} : zI (sgX1_bell σ w0 w1 w2 w3 w4 w5 w6 w7 w8 w9 w10 w11) 1022 g = sgX1_bell σ w0 g w2 w3 w4 w5 w6 w7 w8 w9 w10 w11 := (cm_zI_aL _ _ _ _ _).trans (congrArg (fun z => aL z 1152 w11) ((cm_zI_aL _ _ _ _ _).trans (congrArg (fun z => aL z 1150 w10) ((cm_zI_aL _ _ _ _ _).trans (congrArg (fun z => aL z 1141 w9) ((cm_zI_aL _ _ _ _ _).trans (congrArg (fun z => aL z 1140 w8) ((cm_zI_aL _ _ _ _ _).trans (congrArg (fun z => aL z 1126 w7) ((cm_zI_aI _ _ _ _ _).trans (congrArg (fun z => aI z 1162 w6) ((cm_zI_aI _ _ _ _ _).trans (congrArg (fun z => aI z 1108 w5) ((cm_zI_zL _ _ _ _ _).trans (congrArg (fun z => zL z 1052 w4) ((zI_comm _ (by decide) _ _).trans (congrArg (fun z => zI z 1082 w3) ((zI_comm _ (by decide) _ _).trans (congrArg (fun z => zI z 1062 w2) (zI_zI _ 1022 _ _))))))))))))))))))))
theorem sgX1_bell_zI1062 {σ : Sto} {w0 : Int32} {w1 : Int32} {w2 : Int32} {w3 : Int32} {w4 : Int64} {w5 : Nat → Int32} {w6 : Nat → Int32} {w7 : Nat → Int64} {w8 : Nat → Int64} {w9 : Nat → Int64} {w10 : Nat → Int64} {w11 : Nat → Int64} {g : Int32} : zI (sgX1_bell σ w0 w1 w2 w3 w4 w5 w6 w7 w8 w9 w10 w11) 1062 g = sgX1_bell σ w0 w1 g w3 w4 w5 w6 w7 w8 w9 w10 w11 := (cm_zI_aL _ _ _ _ _).trans (congrArg (fun z => aL z 1152 w11) ((cm_zI_aL _ _ _ _ _).trans (congrArg (fun z => aL z 1150 w10) ((cm_zI_aL _ _ _ _ _).trans (congrArg (fun z => aL z 1141 w9) ((cm_zI_aL _ _ _ _ _).trans (congrArg (fun z => aL z 1140 w8) ((cm_zI_aL _ _ _ _ _).trans (congrArg (fun z => aL z 1126 w7) ((cm_zI_aI _ _ _ _ _).trans (congrArg (fun z => aI z 1162 w6) ((cm_zI_aI _ _ _ _ _).trans (congrArg (fun z => aI z 1108 w5) ((cm_zI_zL _ _ _ _ _).trans (congrArg (fun z => zL z 1052 w4) ((zI_comm _ (by decide) _ _).trans (congrArg (fun z => zI z 1082 w3) (zI_zI _ 1062 _ _))))))))))))))))))
theorem sgX1_bell_zI1082 {σ : Sto} {w0 : Int32} {w1 : Int32} {w2 : Int32} {w3 : Int32} {w4 : Int64} {w5 : Nat → Int32} {w6 : Nat → Int32} {w7 : Nat → Int64} {w8 : Nat → Int64} {w9 : Nat → Int64} {w10 : Nat → Int64} {w11 : Nat → Int64} {g : Int32} : zI (sgX1_bell σ w0 w1 w2 w3 w4 w5 w6 w7 w8 w9 w10 w11) 1082 g = sgX1_bell σ w0 w1 w2 g w4 w5 w6 w7 w8 w9 w10 w11 := (cm_zI_aL _ _ _ _ _).trans (congrArg (fun z => aL z 1152 w11) ((cm_zI_aL _ _ _ _ _).trans (congrArg (fun z => aL z 1150 w10) ((cm_zI_aL _ _ _ _ _).trans (congrArg (fun z => aL z 1141 w9) ((cm_zI_aL _ _ _ _ _).trans (congrArg (fun z => aL z 1140 w8) ((cm_zI_aL _ _ _ _ _).trans (congrArg (fun z => aL z 1126 w7) ((cm_zI_aI _ _ _ _ _).trans (congrArg (fun z => aI z 1162 w6) ((cm_zI_aI _ _ _ _ _).trans (congrArg (fun z => aI z 1108 w5) ((cm_zI_zL _ _ _ _ _).trans (congrArg (fun z => zL z 1052 w4) (zI_zI _ 1082 _ _))))))))))))))))
theorem sgX1_bell_zL1052 {σ : Sto} {w0 : Int32} {w1 : Int32} {w2 : Int32} {w3 : Int32} {w4 : Int64} {w5 : Nat → Int32} {w6 : Nat → Int32} {w7 : Nat → Int64} {w8 : Nat → Int64} {w9 : Nat → Int64} {w10 : Nat → Int64} {w11 : Nat → Int64} {g : Int64} : zL (sgX1_bell σ w0 w1 w2 w3 w4 w5 w6 w7 w8 w9 w10 w11) 1052 g = sgX1_bell σ w0 w1 w2 w3 g w5 w6 w7 w8 w9 w10 w11 := (cm_zL_aL _ _ _ _ _).trans (congrArg (fun z => aL z 1152 w11) ((cm_zL_aL _ _ _ _ _).trans (congrArg (fun z => aL z 1150 w10) ((cm_zL_aL _ _ _ _ _).trans (congrArg (fun z => aL z 1141 w9) ((cm_zL_aL _ _ _ _ _).trans (congrArg (fun z => aL z 1140 w8) ((cm_zL_aL _ _ _ _ _).trans (congrArg (fun z => aL z 1126 w7) ((cm_zL_aI _ _ _ _ _).trans (congrArg (fun z => aI z 1162 w6) ((cm_zL_aI _ _ _ _ _).trans (congrArg (fun z => aI z 1108 w5) (zL_zL _ 1052 _ _))))))))))))))
theorem sgX1_bell_aI1108 {σ : Sto} {w0 : Int32} {w1 : Int32} {w2 : Int32} {w3 : Int32} {w4 : Int64} {w5 : Nat → Int32} {w6 : Nat → Int32} {w7 : Nat → Int64} {w8 : Nat → Int64} {w9 : Nat → Int64} {w10 : Nat → Int64} {w11 : Nat → Int64} {g : Nat → Int32} : aI (sgX1_bell σ w0 w1 w2 w3 w4 w5 w6 w7 w8 w9 w10 w11) 1108 g = sgX1_bell σ w0 w1 w2 w3 w4 g w6 w7 w8 w9 w10 w11 := (cm_aI_aL _ _ _ _ _).trans (congrArg (fun z => aL z 1152 w11) ((cm_aI_aL _ _ _ _ _).trans (congrArg (fun z => aL z 1150 w10) ((cm_aI_aL _ _ _ _ _).trans (congrArg (fun z => aL z 1141 w9) ((cm_aI_aL _ _ _ _ _).trans (congrArg (fun z => aL z 1140 w8) ((cm_aI_aL _ _ _ _ _).trans (congrArg (fun z => aL z 1126 w7) ((aI_comm _ (by decide) _ _).trans (congrArg (fun z => aI z 1162 w6) (aI_aI _ 1108 _ _))))))))))))
theorem sgX1_bell_aI1162 {σ : Sto} {w0 : Int32} {w1 : Int32} {w2 : Int32} {w3 : Int32} {w4 : Int64} {w5 : Nat → Int32} {w6 : Nat → Int32} {w7 : Nat → Int64} {w8 : Nat → Int64} {w9 : Nat → Int64} {w10 : Nat → Int64} {w11 : Nat → Int64} {g : Nat → Int32} : aI (sgX1_bell σ w0 w1 w2 w3 w4 w5 w6 w7 w8 w9 w10 w11) 1162 g = sgX1_bell σ w0 w1 w2 w3 w4 w5 g w7 w8 w9 w10 w11 := (cm_aI_aL _ _ _ _ _).trans (congrArg (fun z => aL z 1152 w11) ((cm_aI_aL _ _ _ _ _).trans (congrArg (fun z => aL z 1150 w10) ((cm_aI_aL _ _ _ _ _).trans (congrArg (fun z => aL z 1141 w9) ((cm_aI_aL _ _ _ _ _).trans (congrArg (fun z => aL z 1140 w8) ((cm_aI_aL _ _ _ _ _).trans (congrArg (fun z => aL z 1126 w7) (aI_aI _ 1162 _ _))))))))))
theorem sgX1_bell_aL1126 {σ : Sto} {w0 : Int32} {w1 : Int32} {w2 : Int32} {w3 : Int32} {w4 : Int64} {w5 : Nat → Int32} {w6 : Nat → Int32} {w7 : Nat → Int64} {w8 : Nat → Int64} {w9 : Nat → Int64} {w10 : Nat → Int64} {w11 : Nat → Int64} {g : Nat → Int64} : aL (sgX1_bell σ w0 w1 w2 w3 w4 w5 w6 w7 w8 w9 w10 w11) 1126 g = sgX1_bell σ w0 w1 w2 w3 w4 w5 w6 g w8 w9 w10 w11 := (aL_comm _ (by decide) _ _).trans (congrArg (fun z => aL z 1152 w11) ((aL_comm _ (by decide) _ _).trans (congrArg (fun z => aL z 1150 w10) ((aL_comm _ (by decide) _ _).trans (congrArg (fun z => aL z 1141 w9) ((aL_comm _ (by decide) _ _).trans (congrArg (fun z => aL z 1140 w8) (aL_aL _ 1126 _ _))))))))
theorem sgX1_bell_aL1140 {σ : Sto} {w0 : Int32} {w1 : Int32} {w2 : Int32} {w3 : Int32} {w4 : Int64} {w5 : Nat → Int32} {w6 : Nat → Int32} {w7 : Nat → Int64} {w8 : Nat → Int64} {w9 : Nat → Int64} {w10 : Nat → Int64} {w11 : Nat → Int64} {g : Nat → Int64} : aL (sgX1_bell σ w0 w1 w2 w3 w4 w5 w6 w7 w8 w9 w10 w11) 1140 g = sgX1_bell σ w0 w1 w2 w3 w4 w5 w6 w7 g w9 w10 w11 := (aL_comm _ (by decide) _ _).trans (congrArg (fun z => aL z 1152 w11) ((aL_comm _ (by decide) _ _).trans (congrArg (fun z => aL z 1150 w10) ((aL_comm _ (by decide) _ _).trans (congrArg (fun z => aL z 1141 w9) (aL_aL _ 1140 _ _))))))
theorem sgX1_bell_aL1141 {σ : Sto} {w0 : Int32} {w1 : Int32} {w2 : Int32} {w3 : Int32} {w4 : Int64} {w5 : Nat → Int32} {w6 : Nat → Int32} {w7 : Nat → Int64} {w8 : Nat → Int64} {w9 : Nat → Int64} {w10 : Nat → Int64} {w11 : Nat → Int64} {g : Nat → Int64} : aL (sgX1_bell σ w0 w1 w2 w3 w4 w5 w6 w7 w8 w9 w10 w11) 1141 g = sgX1_bell σ w0 w1 w2 w3 w4 w5 w6 w7 w8 g w10 w11 := (aL_comm _ (by decide) _ _).trans (congrArg (fun z => aL z 1152 w11) ((aL_comm _ (by decide) _ _).trans (congrArg (fun z => aL z 1150 w10) (aL_aL _ 1141 _ _))))
theorem sgX1_bell_aL1150 {σ : Sto} {w0 : Int32} {w1 : Int32} {w2 : Int32} {w3 : Int32} {w4 : Int64} {w5 : Nat → Int32} {w6 : Nat → Int32} {w7 : Nat → Int64} {w8 : Nat → Int64} {w9 : Nat → Int64} {w10 : Nat → Int64} {w11 : Nat → Int64} {g : Nat → Int64} : aL (sgX1_bell σ w0 w1 w2 w3 w4 w5 w6 w7 w8 w9 w10 w11) 1150 g = sgX1_bell σ w0 w1 w2 w3 w4 w5 w6 w7 w8 w9 g w11 := (aL_comm _ (by decide) _ _).trans (congrArg (fun z => aL z 1152 w11) (aL_aL _ 1150 _ _))
theorem sgX1_bell_aL1152 {σ : Sto} {w0 : Int32} {w1 : Int32} {w2 : Int32} {w3 : Int32} {w4 : Int64} {w5 : Nat → Int32} {w6 : Nat → Int32} {w7 : Nat → Int64} {w8 : Nat → Int64} {w9 : Nat → Int64} {w10 : Nat → Int64} {w11 : Nat → Int64} {g : Nat → Int64} : aL (sgX1_bell σ w0 w1 w2 w3 w4 w5 w6 w7 w8 w9 w10 w11) 1152 g = sgX1_bell σ w0 w1 w2 w3 w4 w5 w6 w7 w8 w9 w10 g := aL_aL _ 1152 _ _
theorem sgX1_bell_rzI1018 {σ : Sto} {w0 : Int32} {w1 : Int32} {w2 : Int32} {w3 : Int32} {w4 : Int64} {w5 : Nat → Int32} {w6 : Nat → Int32} {w7 : Nat → Int64} {w8 : Nat → Int64} {w9 : Nat → Int64} {w10 : Nat → Int64} {w11 : Nat → Int64} : (sgX1_bell σ w0 w1 w2 w3 w4 w5 w6 w7 w8 w9 w10 w11).1 1018 = w0 := rfl
theorem sgX1_bell_rzI1022 {σ : Sto} {w0 : Int32} {w1 : Int32} {w2 : Int32} {w3 : Int32} {w4 : Int64} {w5 : Nat → Int32} {w6 : Nat → Int32} {w7 : Nat → Int64} {w8 : Nat → Int64} {w9 : Nat → Int64} {w10 : Nat → Int64} {w11 : Nat → Int64} : (sgX1_bell σ w0 w1 w2 w3 w4 w5 w6 w7 w8 w9 w10 w11).1 1022 = w1 := rfl
theorem sgX1_bell_rzI1062 {σ : Sto} {w0 : Int32} {w1 : Int32} {w2 : Int32} {w3 : Int32} {w4 : Int64} {w5 : Nat → Int32} {w6 : Nat → Int32} {w7 : Nat → Int64} {w8 : Nat → Int64} {w9 : Nat → Int64} {w10 : Nat → Int64} {w11 : Nat → Int64} : (sgX1_bell σ w0 w1 w2 w3 w4 w5 w6 w7 w8 w9 w10 w11).1 1062 = w2 := rfl
theorem sgX1_bell_rzI1082 {σ : Sto} {w0 : Int32} {w1 : Int32} {w2 : Int32} {w3 : Int32} {w4 : Int64} {w5 : Nat → Int32} {w6 : Nat → Int32} {w7 : Nat → Int64} {w8 : Nat → Int64} {w9 : Nat → Int64} {w10 : Nat → Int64} {w11 : Nat → Int64} : (sgX1_bell σ w0 w1 w2 w3 w4 w5 w6 w7 w8 w9 w10 w11).1 1082 = w3 := rfl
theorem sgX1_bell_rzI2008 {σ : Sto} {w0 : Int32} {w1 : Int32} {w2 : Int32} {w3 : Int32} {w4 : Int64} {w5 : Nat → Int32} {w6 : Nat → Int32} {w7 : Nat → Int64} {w8 : Nat → Int64} {w9 : Nat → Int64} {w10 : Nat → Int64} {w11 : Nat → Int64} : (sgX1_bell σ w0 w1 w2 w3 w4 w5 w6 w7 w8 w9 w10 w11).1 2008 = σ.1 2008 := rfl
theorem sgX1_bell_rzI2009 {σ : Sto} {w0 : Int32} {w1 : Int32} {w2 : Int32} {w3 : Int32} {w4 : Int64} {w5 : Nat → Int32} {w6 : Nat → Int32} {w7 : Nat → Int64} {w8 : Nat → Int64} {w9 : Nat → Int64} {w10 : Nat → Int64} {w11 : Nat → Int64} : (sgX1_bell σ w0 w1 w2 w3 w4 w5 w6 w7 w8 w9 w10 w11).1 2009 = σ.1 2009 := rfl
theorem sgX1_bell_rzI2012 {σ : Sto} {w0 : Int32} {w1 : Int32} {w2 : Int32} {w3 : Int32} {w4 : Int64} {w5 : Nat → Int32} {w6 : Nat → Int32} {w7 : Nat → Int64} {w8 : Nat → Int64} {w9 : Nat → Int64} {w10 : Nat → Int64} {w11 : Nat → Int64} : (sgX1_bell σ w0 w1 w2 w3 w4 w5 w6 w7 w8 w9 w10 w11).1 2012 = σ.1 2012 := rfl
theorem sgX1_bell_rzI2013 {σ : Sto} {w0 : Int32} {w1 : Int32} {w2 : Int32} {w3 : Int32} {w4 : Int64} {w5 : Nat → Int32} {w6 : Nat → Int32} {w7 : Nat → Int64} {w8 : Nat → Int64} {w9 : Nat → Int64} {w10 : Nat → Int64} {w11 : Nat → Int64} : (sgX1_bell σ w0 w1 w2 w3 w4 w5 w6 w7 w8 w9 w10 w11).1 2013 = σ.1 2013 := rfl
theorem sgX1_bell_rzI2027 {σ : Sto} {w0 : Int32} {w1 : Int32} {w2 : Int32} {w3 : Int32} {w4 : Int64} {w5 : Nat → Int32} {w6 : Nat → Int32} {w7 : Nat → Int64} {w8 : Nat → Int64} {w9 : Nat → Int64} {w10 : Nat → Int64} {w11 : Nat → Int64} : (sgX1_bell σ w0 w1 w2 w3 w4 w5 w6 w7 w8 w9 w10 w11).1 2027 = σ.1 2027 := rfl
theorem sgX1_bell_rzI2032 {σ : Sto} {w0 : Int32} {w1 : Int32} {w2 : Int32} {w3 : Int32} {w4 : Int64} {w5 : Nat → Int32} {w6 : Nat → Int32} {w7 : Nat → Int64} {w8 : Nat → Int64} {w9 : Nat → Int64} {w10 : Nat → Int64} {w11 : Nat → Int64} : (sgX1_bell σ w0 w1 w2 w3 w4 w5 w6 w7 w8 w9 w10 w11).1 2032 = σ.1 2032 := rfl
theorem sgX1_bell_rzL1052 {σ : Sto} {w0 : Int32} {w1 : Int32} {w2 : Int32} {w3 : Int32} {w4 : Int64} {w5 : Nat → Int32} {w6 : Nat → Int32} {w7 : Nat → Int64} {w8 : Nat → Int64} {w9 : Nat → Int64} {w10 : Nat → Int64} {w11 : Nat → Int64} : (sgX1_bell σ w0 w1 w2 w3 w4 w5 w6 w7 w8 w9 w10 w11).2.1 1052 = w4 := rfl
theorem sgX1_bell_rzL1061 {σ : Sto} {w0 : Int32} {w1 : Int32} {w2 : Int32} {w3 : Int32} {w4 : Int64} {w5 : Nat → Int32} {w6 : Nat → Int32} {w7 : Nat → Int64} {w8 : Nat → Int64} {w9 : Nat → Int64} {w10 : Nat → Int64} {w11 : Nat → Int64} : (sgX1_bell σ w0 w1 w2 w3 w4 w5 w6 w7 w8 w9 w10 w11).2.1 1061 = σ.2.1 1061 := rfl
theorem sgX1_bell_rzL1081 {σ : Sto} {w0 : Int32} {w1 : Int32} {w2 : Int32} {w3 : Int32} {w4 : Int64} {w5 : Nat → Int32} {w6 : Nat → Int32} {w7 : Nat → Int64} {w8 : Nat → Int64} {w9 : Nat → Int64} {w10 : Nat → Int64} {w11 : Nat → Int64} : (sgX1_bell σ w0 w1 w2 w3 w4 w5 w6 w7 w8 w9 w10 w11).2.1 1081 = σ.2.1 1081 := rfl
theorem sgX1_bell_raI1108 {σ : Sto} {w0 : Int32} {w1 : Int32} {w2 : Int32} {w3 : Int32} {w4 : Int64} {w5 : Nat → Int32} {w6 : Nat → Int32} {w7 : Nat → Int64} {w8 : Nat → Int64} {w9 : Nat → Int64} {w10 : Nat → Int64} {w11 : Nat → Int64} : (sgX1_bell σ w0 w1 w2 w3 w4 w5 w6 w7 w8 w9 w10 w11).2.2.1 1108 = w5 := rfl
theorem sgX1_bell_raI1162 {σ : Sto} {w0 : Int32} {w1 : Int32} {w2 : Int32} {w3 : Int32} {w4 : Int64} {w5 : Nat → Int32} {w6 : Nat → Int32} {w7 : Nat → Int64} {w8 : Nat → Int64} {w9 : Nat → Int64} {w10 : Nat → Int64} {w11 : Nat → Int64} : (sgX1_bell σ w0 w1 w2 w3 w4 w5 w6 w7 w8 w9 w10 w11).2.2.1 1162 = w6 := rfl
theorem sgX1_bell_raI1170 {σ : Sto} {w0 : Int32} {w1 : Int32} {w2 : Int32} {w3 : Int32} {w4 : Int64} {w5 : Nat → Int32} {w6 : Nat → Int32} {w7 : Nat → Int64} {w8 : Nat → Int64} {w9 : Nat → Int64} {w10 : Nat → Int64} {w11 : Nat → Int64} : (sgX1_bell σ w0 w1 w2 w3 w4 w5 w6 w7 w8 w9 w10 w11).2.2.1 1170 = σ.2.2.1 1170 := rfl
theorem sgX1_bell_raI2036 {σ : Sto} {w0 : Int32} {w1 : Int32} {w2 : Int32} {w3 : Int32} {w4 : Int64} {w5 : Nat → Int32} {w6 : Nat → Int32} {w7 : Nat → Int64} {w8 : Nat → Int64} {w9 : Nat → Int64} {w10 : Nat → Int64} {w11 : Nat → Int64} : (sgX1_bell σ w0 w1 w2 w3 w4 w5 w6 w7 w8 w9 w10 w11).2.2.1 2036 = σ.2.2.1 2036 := rfl
theorem sgX1_bell_raI2037 {σ : Sto} {w0 : Int32} {w1 : Int32} {w2 : Int32} {w3 : Int32} {w4 : Int64} {w5 : Nat → Int32} {w6 : Nat → Int32} {w7 : Nat → Int64} {w8 : Nat → Int64} {w9 : Nat → Int64} {w10 : Nat → Int64} {w11 : Nat → Int64} : (sgX1_bell σ w0 w1 w2 w3 w4 w5 w6 w7 w8 w9 w10 w11).2.2.1 2037 = σ.2.2.1 2037 := rfl
theorem sgX1_bell_raI2042 {σ : Sto} {w0 : Int32} {w1 : Int32} {w2 : Int32} {w3 : Int32} {w4 : Int64} {w5 : Nat → Int32} {w6 : Nat → Int32} {w7 : Nat → Int64} {w8 : Nat → Int64} {w9 : Nat → Int64} {w10 : Nat → Int64} {w11 : Nat → Int64} : (sgX1_bell σ w0 w1 w2 w3 w4 w5 w6 w7 w8 w9 w10 w11).2.2.1 2042 = σ.2.2.1 2042 := rfl
theorem sgX1_bell_raI2043 {σ : Sto} {w0 : Int32} {w1 : Int32} {w2 : Int32} {w3 : Int32} {w4 : Int64} {w5 : Nat → Int32} {w6 : Nat → Int32} {w7 : Nat → Int64} {w8 : Nat → Int64} {w9 : Nat → Int64} {w10 : Nat → Int64} {w11 : Nat → Int64} : (sgX1_bell σ w0 w1 w2 w3 w4 w5 w6 w7 w8 w9 w10 w11).2.2.1 2043 = σ.2.2.1 2043 := rfl
theorem sgX1_bell_raL1126 {σ : Sto} {w0 : Int32} {w1 : Int32} {w2 : Int32} {w3 : Int32} {w4 : Int64} {w5 : Nat → Int32} {w6 : Nat → Int32} {w7 : Nat → Int64} {w8 : Nat → Int64} {w9 : Nat → Int64} {w10 : Nat → Int64} {w11 : Nat → Int64} : (sgX1_bell σ w0 w1 w2 w3 w4 w5 w6 w7 w8 w9 w10 w11).2.2.2.1 1126 = w7 := rfl
theorem sgX1_bell_raL1140 {σ : Sto} {w0 : Int32} {w1 : Int32} {w2 : Int32} {w3 : Int32} {w4 : Int64} {w5 : Nat → Int32} {w6 : Nat → Int32} {w7 : Nat → Int64} {w8 : Nat → Int64} {w9 : Nat → Int64} {w10 : Nat → Int64} {w11 : Nat → Int64} : (sgX1_bell σ w0 w1 w2 w3 w4 w5 w6 w7 w8 w9 w10 w11).2.2.2.1 1140 = w8 := rfl
theorem sgX1_bell_raL1141 {σ : Sto} {w0 : Int32} {w1 : Int32} {w2 : Int32} {w3 : Int32} {w4 : Int64} {w5 : Nat → Int32} {w6 : Nat → Int32} {w7 : Nat → Int64} {w8 : Nat → Int64} {w9 : Nat → Int64} {w10 : Nat → Int64} {w11 : Nat → Int64} : (sgX1_bell σ w0 w1 w2 w3 w4 w5 w6 w7 w8 w9 w10 w11).2.2.2.1 1141 = w9 := rfl
theorem sgX1_bell_raL1150 {σ : Sto} {w0 : Int32} {w1 : Int32} {w2 : Int32} {w3 : Int32} {w4 : Int64} {w5 : Nat → Int32} {w6 : Nat → Int32} {w7 : Nat → Int64} {w8 : Nat → Int64} {w9 : Nat → Int64} {w10 : Nat → Int64} {w11 : Nat → Int64} : (sgX1_bell σ w0 w1 w2 w3 w4 w5 w6 w7 w8 w9 w10 w11).2.2.2.1 1150 = w10 := rfl
theorem sgX1_bell_raL1152 {σ : Sto} {w0 : Int32} {w1 : Int32} {w2 : Int32} {w3 : Int32} {w4 : Int64} {w5 : Nat → Int32} {w6 : Nat → Int32} {w7 : Nat → Int64} {w8 : Nat → Int64} {w9 : Nat → Int64} {w10 : Nat → Int64} {w11 : Nat → Int64} : (sgX1_bell σ w0 w1 w2 w3 w4 w5 w6 w7 w8 w9 w10 w11).2.2.2.1 1152 = w11 := rfl
theorem sgX1_bell_rpR2 {σ : Sto} {w0 : Int32} {w1 : Int32} {w2 : Int32} {w3 : Int32} {w4 : Int64} {w5 : Nat → Int32} {w6 : Nat → Int32} {w7 : Nat → Int64} {w8 : Nat → Int64} {w9 : Nat → Int64} {w10 : Nat → Int64} {w11 : Nat → Int64} : (fun k => (sgX1_bell σ w0 w1 w2 w3 w4 w5 w6 w7 w8 w9 w10 w11).1 (6000 + 16 * k + 2)) = (fun k => σ.1 (6000 + 16 * k + 2)) := by
  funext k
  unfold sgX1_bell
  dsimp only [zI, zL, aI, aL]
  repeat rw [if_neg (by omega)]
theorem sgX1_bell_rpR3 {σ : Sto} {w0 : Int32} {w1 : Int32} {w2 : Int32} {w3 : Int32} {w4 : Int64} {w5 : Nat → Int32} {w6 : Nat → Int32} {w7 : Nat → Int64} {w8 : Nat → Int64} {w9 : Nat → Int64} {w10 : Nat → Int64} {w11 : Nat → Int64} : (fun k => (sgX1_bell σ w0 w1 w2 w3 w4 w5 w6 w7 w8 w9 w10 w11).1 (6000 + 16 * k + 3)) = (fun k => σ.1 (6000 + 16 * k + 3)) := by
  funext k
  unfold sgX1_bell
  dsimp only [zI, zL, aI, aL]
  repeat rw [if_neg (by omega)]
theorem sgX1_bell_rpR4 {σ : Sto} {w0 : Int32} {w1 : Int32} {w2 : Int32} {w3 : Int32} {w4 : Int64} {w5 : Nat → Int32} {w6 : Nat → Int32} {w7 : Nat → Int64} {w8 : Nat → Int64} {w9 : Nat → Int64} {w10 : Nat → Int64} {w11 : Nat → Int64} : (fun k => (sgX1_bell σ w0 w1 w2 w3 w4 w5 w6 w7 w8 w9 w10 w11).1 (6000 + 16 * k + 4)) = (fun k => σ.1 (6000 + 16 * k + 4)) := by
  funext k
  unfold sgX1_bell
  dsimp only [zI, zL, aI, aL]
  repeat rw [if_neg (by omega)]
theorem sgX1_bell_rpR5 {σ : Sto} {w0 : Int32} {w1 : Int32} {w2 : Int32} {w3 : Int32} {w4 : Int64} {w5 : Nat → Int32} {w6 : Nat → Int32} {w7 : Nat → Int64} {w8 : Nat → Int64} {w9 : Nat → Int64} {w10 : Nat → Int64} {w11 : Nat → Int64} : (fun k => (sgX1_bell σ w0 w1 w2 w3 w4 w5 w6 w7 w8 w9 w10 w11).1 (6000 + 16 * k + 5)) = (fun k => σ.1 (6000 + 16 * k + 5)) := by
  funext k
  unfold sgX1_bell
  dsimp only [zI, zL, aI, aL]
  repeat rw [if_neg (by omega)]
theorem sgX1_bell_rpR6 {σ : Sto} {w0 : Int32} {w1 : Int32} {w2 : Int32} {w3 : Int32} {w4 : Int64} {w5 : Nat → Int32} {w6 : Nat → Int32} {w7 : Nat → Int64} {w8 : Nat → Int64} {w9 : Nat → Int64} {w10 : Nat → Int64} {w11 : Nat → Int64} : (fun k => (sgX1_bell σ w0 w1 w2 w3 w4 w5 w6 w7 w8 w9 w10 w11).1 (6000 + 16 * k + 6)) = (fun k => σ.1 (6000 + 16 * k + 6)) := by
  funext k
  unfold sgX1_bell
  dsimp only [zI, zL, aI, aL]
  repeat rw [if_neg (by omega)]
theorem sgX1_bell_rpW0 {σ : Sto} {w0 : Int32} {w1 : Int32} {w2 : Int32} {w3 : Int32} {w4 : Int64} {w5 : Nat → Int32} {w6 : Nat → Int32} {w7 : Nat → Int64} {w8 : Nat → Int64} {w9 : Nat → Int64} {w10 : Nat → Int64} {w11 : Nat → Int64} : (fun k => (sgX1_bell σ w0 w1 w2 w3 w4 w5 w6 w7 w8 w9 w10 w11).1 (8000 + 16 * k + 0)) = (fun k => σ.1 (8000 + 16 * k + 0)) := by
  funext k
  unfold sgX1_bell
  dsimp only [zI, zL, aI, aL]
  repeat rw [if_neg (by omega)]
theorem sgX1_bell_rpW1 {σ : Sto} {w0 : Int32} {w1 : Int32} {w2 : Int32} {w3 : Int32} {w4 : Int64} {w5 : Nat → Int32} {w6 : Nat → Int32} {w7 : Nat → Int64} {w8 : Nat → Int64} {w9 : Nat → Int64} {w10 : Nat → Int64} {w11 : Nat → Int64} : (fun k => (sgX1_bell σ w0 w1 w2 w3 w4 w5 w6 w7 w8 w9 w10 w11).1 (8000 + 16 * k + 1)) = (fun k => σ.1 (8000 + 16 * k + 1)) := by
  funext k
  unfold sgX1_bell
  dsimp only [zI, zL, aI, aL]
  repeat rw [if_neg (by omega)]
theorem sgX1_bell_rpW2 {σ : Sto} {w0 : Int32} {w1 : Int32} {w2 : Int32} {w3 : Int32} {w4 : Int64} {w5 : Nat → Int32} {w6 : Nat → Int32} {w7 : Nat → Int64} {w8 : Nat → Int64} {w9 : Nat → Int64} {w10 : Nat → Int64} {w11 : Nat → Int64} : (fun k => (sgX1_bell σ w0 w1 w2 w3 w4 w5 w6 w7 w8 w9 w10 w11).1 (8000 + 16 * k + 2)) = (fun k => σ.1 (8000 + 16 * k + 2)) := by
  funext k
  unfold sgX1_bell
  dsimp only [zI, zL, aI, aL]
  repeat rw [if_neg (by omega)]
theorem sgX1_bell_rgG0 {σ : Sto} {w0 : Int32} {w1 : Int32} {w2 : Int32} {w3 : Int32} {w4 : Int64} {w5 : Nat → Int32} {w6 : Nat → Int32} {w7 : Nat → Int64} {w8 : Nat → Int64} {w9 : Nat → Int64} {w10 : Nat → Int64} {w11 : Nat → Int64} : (fun k => (sgX1_bell σ w0 w1 w2 w3 w4 w5 w6 w7 w8 w9 w10 w11).2.2.1 (4000 + 16 * k)) = (fun k => σ.2.2.1 (4000 + 16 * k)) := by
  funext k
  unfold sgX1_bell
  dsimp only [zI, zL, aI, aL]
  repeat rw [if_neg (by omega)]
abbrev rmX1_bell : Room := { frames := 49, cells := 0, slots := 0, locals := 1337 }
set_option maxHeartbeats 4000000 in
theorem wkX1_bell {x1 : Int32} {r_ : Int64} {w_zI1018 : Int32} {w_zI1022 : Int32} {w_zI1062 : Int32} {w_zI1082 : Int32} {w_zL1052 : Int64} {w_aI1108 : Nat → Int32} {w_aI1162 : Nat → Int32} {w_aL1126 : Nat → Int64} {w_aL1140 : Nat → Int64} {w_aL1141 : Nat → Int64} {w_aL1150 : Nat → Int64} {w_aL1152 : Nat → Int64} (E : EN p s m args meth c0 RX1 cX1_bell 2 (Option.some Jvm.ClassFile.FieldType.long)) (hX : KX D G ad A s s.heap) (hD : XD dsc nr nw nu) (hA : ∀ q, PA dsc ad s.heap.size q → A q) (hf : xo_X1_bell (σ.1 1018) (σ.1 1022) (σ.1 1062) (σ.1 1082) (σ.1 2008) (σ.1 2009) (σ.1 2012) (σ.1 2013) (σ.1 2027) (σ.1 2032) (σ.2.1 1052) (σ.2.1 1061) (σ.2.1 1081) (σ.2.2.1 1108) (σ.2.2.1 1162) (σ.2.2.1 1170) (σ.2.2.1 2036) (σ.2.2.1 2037) (σ.2.2.1 2042) (σ.2.2.1 2043) (σ.2.2.2.1 1126) (σ.2.2.2.1 1140) (σ.2.2.2.1 1141) (σ.2.2.2.1 1150) (σ.2.2.2.1 1152) nr nw (fun k => σ.1 (6000 + 16 * k + 2)) (fun k => σ.1 (6000 + 16 * k + 3)) (fun k => σ.1 (6000 + 16 * k + 4)) (fun k => σ.1 (6000 + 16 * k + 5)) (fun k => σ.1 (6000 + 16 * k + 6)) (fun k => σ.1 (8000 + 16 * k + 0)) (fun k => σ.1 (8000 + 16 * k + 1)) (fun k => σ.1 (8000 + 16 * k + 2)) (fun k => σ.2.2.1 (4000 + 16 * k)) x1 = some (r_, w_zI1018, w_zI1022, w_zI1062, w_zI1082, w_zL1052, w_aI1108, w_aI1162, w_aL1126, w_aL1140, w_aL1141, w_aL1150, w_aL1152)) (hQ : Q = MQ below (va_G1 (some (.long r_)) (fun t => PIC D clsA G dsc ad (sgX1_bell σ w_zI1018 w_zI1022 w_zI1062 w_zI1082 w_zL1052 w_aI1108 w_aI1162 w_aL1126 w_aL1140 w_aL1141 w_aL1150 w_aL1152) t.heap) A) args s 0 0 A) (hP : PIC D clsA G dsc ad σ H) (hS : va_S A s.heap H locs) (hl : lv_has ls 2 [(0, .ref (ad 1000)), (1, .int x1)]) : W p l e rmX1_bell s m args below meth c0 H locs 0 0 Q (F0 m 0 ls []) := by
  obtain ⟨⟨hx, hb, hml, hown, hts⟩, hr, hlk⟩ := id E
  have hP := hP.to (sgX1_bell_self σ).symm
  unfold xo_X1_bell at hf
  refine lv_iload_n hx hb dX1_bell_0 rfl (lv_at hl 1 rfl) ?_
  refine lv_iconst hx hb dX1_bell_1 ic_0 ?_
  refine lv_bipush hx hb dX1_bell_2 bp_48 ?_
  obtain ⟨v1, u2, hf⟩ := bdP hf
  refine cx_X1_143_X1_in E hX hD hP hS hA (kxX1_in l D G hD u2) ⟨rfl, rfl⟩ ⟨Nat.le_of_ble_eq_true rfl, Nat.le_of_ble_eq_true rfl⟩ ⟨Nat.zero_le _, Nat.zero_le _⟩ hl.1 (Nat.le_of_ble_eq_true rfl) dX1_bell_4 (fun H locs hP hS => ?_)
  have J20 : xo_X1_bell_J20 (σ.1 1018) (σ.1 1022) (σ.1 1062) (σ.1 1082) (σ.2.1 1052) (σ.2.2.1 1108) (σ.2.2.1 1162) (σ.2.2.2.1 1126) (σ.2.2.2.1 1140) (σ.2.2.2.1 1141) (σ.2.2.2.1 1150) (σ.2.2.2.1 1152) = some (r_, w_zI1018, w_zI1022, w_zI1062, w_zI1082, w_zL1052, w_aI1108, w_aI1162, w_aL1126, w_aL1140, w_aL1141, w_aL1150, w_aL1152) → ∀ (H : Heap) (locs : List Loc), PIC D clsA G dsc ad (sgX1_bell σ (σ.1 1018) (σ.1 1022) (σ.1 1062) (σ.1 1082) (σ.2.1 1052) (σ.2.2.1 1108) (σ.2.2.1 1162) (σ.2.2.2.1 1126) (σ.2.2.2.1 1140) (σ.2.2.2.1 1141) (σ.2.2.2.1 1150) (σ.2.2.2.1 1152)) H → va_S A s.heap H locs → ∀ (ls : Array Slot), lv_has ls 2 [] → W p l e rmX1_bell s m args below meth c0 H locs 0 0 Q (F0 m 20 ls []) := by
    intro  hf H locs hP hS ls hl
    unfold xo_X1_bell_J20 at hf
    refine lv_ldc2 hx hb hown (hts _ q996) dX1_bell_20 ?_
    cases hf
    rw [hQ]; exact g_lret hx hb hr hlk hP hS dX1_bell_23
  refine lv_if_eq (tgt := 20) hx hb dX1_bell_7 (by decide) (fun c3 => ?_) (fun c3 => ?_)
  · have hf := ifT c3 hf
    exact J20  hf H locs hP hS ls (lv_sub hl [] rfl)
  · have hf := ifF c3 hf
    refine lv_aload_n hx hb dX1_bell_10 rfl (lv_at hl 0 rfl) ?_
    refine gx_X1_33_1000 E hX hD hP dX1_bell_11 ?_
    obtain ⟨v4, u5, hf⟩ := bdP hf
    refine cx_X1_231_X3_isWhole E hX hD hP hS hA (kxX3_isWhole l D G hD sgX1_bell_rzI2012 sgX1_bell_rzI2013 u5) ⟨rfl, rfl⟩ ⟨Nat.le_of_ble_eq_true rfl, Nat.le_of_ble_eq_true rfl⟩ ⟨Nat.zero_le _, Nat.zero_le _⟩ hl.1 (Nat.le_of_ble_eq_true rfl) dX1_bell_14 (fun H locs hP hS => ?_)
    refine lv_if_ne (tgt := 24) hx hb dX1_bell_17 (by decide) (fun c6 => ?_) (fun c6 => ?_)
    · have hf := ifF c6 hf
      refine lv_aload_n hx hb dX1_bell_24 rfl (lv_at hl 0 rfl) ?_
      obtain ⟨⟨z7, z8, z9, z10, a11, a12, a13, a14, a15, a16⟩, u17, hf⟩ := bdP hf
      dsimp only at hf
      refine cx_X1_276_X1_lay E hX hD hP hS hA (kxX1_lay l D G hD sgX1_bell_rzI1018 sgX1_bell_rzI1062 sgX1_bell_rzI1082 sgX1_bell_rzI2008 sgX1_bell_rzI2009 sgX1_bell_rzI2012 sgX1_bell_rzI2013 sgX1_bell_rzI2027 sgX1_bell_rzI2032 sgX1_bell_rzL1052 sgX1_bell_rzL1061 sgX1_bell_rzL1081 sgX1_bell_raI1108 sgX1_bell_raI1162 sgX1_bell_raI1170 sgX1_bell_raI2036 sgX1_bell_raI2037 sgX1_bell_raI2042 sgX1_bell_raI2043 sgX1_bell_raL1140 sgX1_bell_raL1141 sgX1_bell_raL1150 sgX1_bell_raL1152 rfl rfl sgX1_bell_rpR2 sgX1_bell_rpR3 sgX1_bell_rpR4 sgX1_bell_rpR5 sgX1_bell_rpR6 sgX1_bell_rpW0 sgX1_bell_rpW1 sgX1_bell_rpW2 sgX1_bell_rgG0 u17) ⟨rfl, rfl⟩ ⟨Nat.le_of_ble_eq_true rfl, Nat.le_of_ble_eq_true rfl⟩ ⟨Nat.zero_le _, Nat.zero_le _⟩ hl.1 (Nat.le_of_ble_eq_true rfl) dX1_bell_25 (fun H locs hP hS => ?_)
      rw [sgX1_bell_zI1018, sgX1_bell_zI1062, sgX1_bell_zI1082, sgX1_bell_zL1052, sgX1_bell_aI1108, sgX1_bell_aI1162, sgX1_bell_aL1140, sgX1_bell_aL1141, sgX1_bell_aL1150, sgX1_bell_aL1152] at hP
      refine lv_aload_n hx hb dX1_bell_28 rfl (lv_at hl 0 rfl) ?_
      refine gx_X1_181_1000 (v := (σ.1 1022)) E hX hD hP sgX1_bell_rzI1022 dX1_bell_29 ?_
      have J39 : ∀ (z18 : Int32) (a19 : Nat → Int64), xo_X1_bell_J39 (σ.1 2012) (σ.1 2013) (σ.1 2027) (σ.2.2.1 1170) (σ.2.2.1 2043) x1 z7 z8 z9 z10 a11 a12 a13 a14 a15 a16 z18 a19 = some (r_, w_zI1018, w_zI1022, w_zI1062, w_zI1082, w_zL1052, w_aI1108, w_aI1162, w_aL1126, w_aL1140, w_aL1141, w_aL1150, w_aL1152) → ∀ (H : Heap) (locs : List Loc), PIC D clsA G dsc ad (sgX1_bell σ z7 z18 z8 z9 z10 a11 a12 a19 a13 a14 a15 a16) H → va_S A s.heap H locs → ∀ (ls : Array Slot), lv_has ls 2 [(0, .ref (ad 1000)), (1, .int x1)] → W p l e rmX1_bell s m args below meth c0 H locs 0 0 Q (F0 m 39 ls []) := by
        intro z18 a19 hf H locs hP hS ls hl
        unfold xo_X1_bell_J39 at hf
        refine lv_aload_n hx hb dX1_bell_39 rfl (lv_at hl 0 rfl) ?_
        refine lv_aload_n hx hb dX1_bell_40 rfl (lv_at hl 0 rfl) ?_
        refine gx_X1_33_1000 E hX hD hP dX1_bell_41 ?_
        refine lv_aload_n hx hb dX1_bell_44 rfl (lv_at hl 0 rfl) ?_
        refine gx_X1_33_1000 E hX hD hP dX1_bell_45 ?_
        refine gx_X1_253_2000 (v := (σ.1 2012)) E hX hD hP sgX1_bell_rzI2012 dX1_bell_48 ?_
        refine lv_iconst hx hb dX1_bell_51 ic_0 ?_
        obtain ⟨v20, u21, hf⟩ := bdP hf
        refine cx_X1_333_X3_unseen E hX hD hP hS hA (kxX3_unseen l D G hD sgX1_bell_rzI2027 sgX1_bell_raI1170 sgX1_bell_raI2043 u21) ⟨rfl, rfl⟩ ⟨Nat.le_of_ble_eq_true rfl, Nat.le_of_ble_eq_true rfl⟩ ⟨Nat.zero_le _, Nat.zero_le _⟩ hl.1 (Nat.le_of_ble_eq_true rfl) dX1_bell_52 (fun H locs hP hS => ?_)
        refine lv_aload_n hx hb dX1_bell_55 rfl (lv_at hl 0 rfl) ?_
        refine gx_X1_33_1000 E hX hD hP dX1_bell_56 ?_
        refine gx_X1_253_2000 (v := (σ.1 2012)) E hX hD hP sgX1_bell_rzI2012 dX1_bell_59 ?_
        refine lv_iconst hx hb dX1_bell_62 ic_0 ?_
        refine lv_iload_n hx hb dX1_bell_63 rfl (lv_at hl 1 rfl) ?_
        obtain ⟨v22, u23, hf⟩ := bdP hf
        refine cx_X1_390_X1_over E hX hD hP hS hA (kxX1_over l D G hD sgX1_bell_rzI2013 sgX1_bell_raI1170 sgX1_bell_raL1126 sgX1_bell_raL1141 u23) ⟨rfl, rfl⟩ ⟨Nat.le_of_ble_eq_true rfl, Nat.le_of_ble_eq_true rfl⟩ ⟨Nat.zero_le _, Nat.zero_le _⟩ hl.1 (Nat.le_of_ble_eq_true rfl) dX1_bell_64 (fun H locs hP hS => ?_)
        cases hf
        rw [hQ]; exact g_lret hx hb hr hlk hP hS dX1_bell_67
      refine lv_if_ne (tgt := 39) hx hb dX1_bell_32 (by decide) (fun c24 => ?_) (fun c24 => ?_)
      · have hf := ifF c24 hf
        exact J39 (σ.1 1022) (σ.2.2.2.1 1126) hf H locs hP hS ls (lv_sub hl [0, 1] rfl)
      · have hf := ifT c24 hf
        refine lv_aload_n hx hb dX1_bell_35 rfl (lv_at hl 0 rfl) ?_
        obtain ⟨⟨z25, a26⟩, u27, hf⟩ := bdP hf
        dsimp only at hf
        refine cx_X1_413_X1_ring_3 E hX hD hP hS hA (kxX1_ring_3 l D G hD sgX1_bell_rzI1022 sgX1_bell_rzI2008 sgX1_bell_rzI2013 sgX1_bell_rzI2027 sgX1_bell_rzI2032 sgX1_bell_raI1170 sgX1_bell_raI2037 sgX1_bell_raI2043 sgX1_bell_raL1126 sgX1_bell_raL1141 rfl rfl sgX1_bell_rpR2 sgX1_bell_rpR5 sgX1_bell_rpR6 sgX1_bell_rpW0 sgX1_bell_rpW1 sgX1_bell_rpW2 sgX1_bell_rgG0 u27) ⟨rfl, rfl⟩ ⟨Nat.le_of_ble_eq_true rfl, Nat.le_of_ble_eq_true rfl⟩ ⟨Nat.zero_le _, Nat.zero_le _⟩ hl.1 (Nat.le_of_ble_eq_true rfl) dX1_bell_36 (fun H locs hP hS => ?_)
        rw [sgX1_bell_zI1022, sgX1_bell_aL1126] at hP
        exact J39 z25 a26 hf H locs hP hS ls (lv_sub hl [0, 1] rfl)
    · have hf := ifT c6 hf
      exact J20  hf H locs hP hS ls (lv_sub hl [] rfl)
theorem kxX1_bell (l : Launch) (D : va_G) (G : Nat → ClassId) {dsc : Nat → Option Dsc} {ad : Nat → Nat} {σ : Sto} {nr nw nu : Nat} (hD : XD dsc nr nw nu) {x1 : Int32} {r_ : Int64} {w_zI1018 : Int32} {w_zI1022 : Int32} {w_zI1062 : Int32} {w_zI1082 : Int32} {w_zL1052 : Int64} {w_aI1108 : Nat → Int32} {w_aI1162 : Nat → Int32} {w_aL1126 : Nat → Int64} {w_aL1140 : Nat → Int64} {w_aL1141 : Nat → Int64} {w_aL1150 : Nat → Int64} {w_aL1152 : Nat → Int64} {z_X_isLaid : Int32} (e_zI1018 : σ.1 1018 = z_X_isLaid) {z_X_hasBell : Int32} (e_zI1022 : σ.1 1022 = z_X_hasBell) {z_TB_by : Int32} (e_zI1062 : σ.1 1062 = z_TB_by) {z_TS_by : Int32} (e_zI1082 : σ.1 1082 = z_TS_by) {z_L_places : Int32} (e_zI2008 : σ.1 2008 = z_L_places) {z_L_causes : Int32} (e_zI2009 : σ.1 2009 = z_L_causes) {z_L_from : Int32} (e_zI2012 : σ.1 2012 = z_L_from) {z_L_to : Int32} (e_zI2013 : σ.1 2013 = z_L_to) {z_Ld_size : Int32} (e_zI2027 : σ.1 2027 = z_Ld_size) {z_Lw_size : Int32} (e_zI2032 : σ.1 2032 = z_Lw_size) {z_W_all : Int64} (e_zL1052 : σ.2.1 1052 = z_W_all) {z_TB_none : Int64} (e_zL1061 : σ.2.1 1061 = z_TB_none) {z_TS_none : Int64} (e_zL1081 : σ.2.1 1081 = z_TS_none) {a_X_knowing : Nat → Int32} (e_aI1108 : σ.2.2.1 1108 = a_X_knowing) {a_p3_far : Nat → Int32} (e_aI1162 : σ.2.2.1 1162 = a_p3_far) {a_UNIT : Nat → Int32} (e_aI1170 : σ.2.2.1 1170 = a_UNIT) {a_Ld_data : Nat → Int32} (e_aI2036 : σ.2.2.1 2036 = a_Ld_data) {a_Lw_data : Nat → Int32} (e_aI2037 : σ.2.2.1 2037 = a_Lw_data) {a_L_comes : Nat → Int32} (e_aI2042 : σ.2.2.1 2042 = a_L_comes) {a_L_seen : Nat → Int32} (e_aI2043 : σ.2.2.1 2043 = a_L_seen) {a_X_sums : Nat → Int64} (e_aL1126 : σ.2.2.2.1 1126 = a_X_sums) {a_W_world : Nat → Int64} (e_aL1140 : σ.2.2.2.1 1140 = a_W_world) {a_W_likely : Nat → Int64} (e_aL1141 : σ.2.2.2.1 1141 = a_W_likely) {a_TB_value : Nat → Int64} (e_aL1150 : σ.2.2.2.1 1150 = a_TB_value) {a_TS_value : Nat → Int64} (e_aL1152 : σ.2.2.2.1 1152 = a_TS_value) {n_r : Nat} (e_nN0 : nr = n_r) {n_w : Nat} (e_nN1 : nw = n_w) {p_road_hours : Nat → Int32} (e_pR2 : (fun k => σ.1 (6000 + 16 * k + 2)) = p_road_hours) {p_road_doubt : Nat → Int32} (e_pR3 : (fun k => σ.1 (6000 + 16 * k + 3)) = p_road_doubt) {p_road_cause : Nat → Int32} (e_pR4 : (fun k => σ.1 (6000 + 16 * k + 4)) = p_road_cause) {p_road_wait : Nat → Int32} (e_pR5 : (fun k => σ.1 (6000 + 16 * k + 5)) = p_road_wait) {p_road_number : Nat → Int32} (e_pR6 : (fun k => σ.1 (6000 + 16 * k + 6)) = p_road_number) {p_word_place : Nat → Int32} (e_pW0 : (fun k => σ.1 (8000 + 16 * k + 0)) = p_word_place) {p_word_road : Nat → Int32} (e_pW1 : (fun k => σ.1 (8000 + 16 * k + 1)) = p_word_road) {p_word_hours : Nat → Int32} (e_pW2 : (fun k => σ.1 (8000 + 16 * k + 2)) = p_word_hours) {g_grid : Nat → Nat → Int32} (e_gG0 : (fun k => σ.2.2.1 (4000 + 16 * k)) = g_grid) (hf : xo_X1_bell z_X_isLaid z_X_hasBell z_TB_by z_TS_by z_L_places z_L_causes z_L_from z_L_to z_Ld_size z_Lw_size z_W_all z_TB_none z_TS_none a_X_knowing a_p3_far a_UNIT a_Ld_data a_Lw_data a_L_comes a_L_seen a_X_sums a_W_world a_W_likely a_TB_value a_TS_value n_r n_w p_road_hours p_road_doubt p_road_cause p_road_wait p_road_number p_word_place p_word_road p_word_hours g_grid x1 = some (r_, w_zI1018, w_zI1022, w_zI1062, w_zI1082, w_zL1052, w_aI1108, w_aI1162, w_aL1126, w_aL1140, w_aL1141, w_aL1150, w_aL1152)) : CtG l D G dsc ad yX1_bell (ws_ yX1_bell cX1_bell 2 (Option.some Jvm.ClassFile.FieldType.long)) rmX1_bell [.ref (ad 1000), .int x1] σ (some (.long r_)) (aL (aL (aL (aL (aL (aI (aI (zL (zI (zI (zI (zI σ 1018 w_zI1018) 1022 w_zI1022) 1062 w_zI1062) 1082 w_zI1082) 1052 w_zL1052) 1108 w_aI1108) 1162 w_aI1162) 1126 w_aL1126) 1140 w_aL1140) 1141 w_aL1141) 1150 w_aL1150) 1152 w_aL1152) := by
  subst e_zI1018
  subst e_zI1022
  subst e_zI1062
  subst e_zI1082
  subst e_zI2008
  subst e_zI2009
  subst e_zI2012
  subst e_zI2013
  subst e_zI2027
  subst e_zI2032
  subst e_zL1052
  subst e_zL1061
  subst e_zL1081
  subst e_aI1108
  subst e_aI1162
  subst e_aI1170
  subst e_aI2036
  subst e_aI2037
  subst e_aI2042
  subst e_aI2043
  subst e_aL1126
  subst e_aL1140
  subst e_aL1141
  subst e_aL1150
  subst e_aL1152
  subst e_nN0
  subst e_nN1
  subst e_pR2
  subst e_pR3
  subst e_pR4
  subst e_pR5
  subst e_pR6
  subst e_pW0
  subst e_pW1
  subst e_pW2
  subst e_gG0
  exact p_ctG (by decide +kernel) (Nat.le_of_ble_eq_true rfl) (fun p e s m below meth c0 ls A E hP hX hA hS hl => wkX1_bell E hX hD hA hf rfl hP hS hl)
/-! X1_mayStep ()Z -/
abbrev rmX1_mayStep : Room := { frames := 0, cells := 0, slots := 0, locals := 0 }
set_option maxHeartbeats 4000000 in
theorem wkX1_mayStep {r_ : Int32} (E : EN p s m args meth c0 RX1 cX1_mayStep 1 (Option.some Jvm.ClassFile.FieldType.boolean)) (hX : KX D G ad A s s.heap) (hD : XD dsc nr nw nu) (hA : ∀ q, PA dsc ad s.heap.size q → A q) (hf : xo_X1_mayStep (σ.1 1027) (σ.1 1029) (σ.1 2013) (σ.2.2.1 1130) = some r_) (hQ : Q = MQ below (va_G1 (some (.int r_)) (fun t => PIC D clsA G dsc ad σ t.heap) A) args s 0 0 A) (hP : PIC D clsA G dsc ad σ H) (hS : va_S A s.heap H locs) (hl : lv_has ls 1 [(0, .ref (ad 1000))]) : W p l e rmX1_mayStep s m args below meth c0 H locs 0 0 Q (F0 m 0 ls []) := by
  obtain ⟨⟨hx, hb, hml, hown, hts⟩, hr, hlk⟩ := id E
  unfold xo_X1_mayStep at hf
  refine lv_aload_n hx hb dX1_mayStep_0 rfl (lv_at hl 0 rfl) ?_
  refine gx_X1_168_1000 (v := (σ.1 1027)) E hX hD hP rfl dX1_mayStep_1 ?_
  have J39 : xo_X1_mayStep_J39 = some r_ → ∀ (H : Heap) (locs : List Loc), PIC D clsA G dsc ad σ H → va_S A s.heap H locs → ∀ (ls : Array Slot), lv_has ls 1 [] → W p l e rmX1_mayStep s m args below meth c0 H locs 0 0 Q (F0 m 39 ls []) := by
    intro  hf H locs hP hS ls hl
    unfold xo_X1_mayStep_J39 at hf
    refine lv_iconst hx hb dX1_mayStep_39 ic_0 ?_
    cases hf
    rw [hQ]; exact g_nret hx hb hr hlk hP hS rfl dX1_mayStep_40
  refine lv_if_eq (tgt := 39) hx hb dX1_mayStep_4 (by decide) (fun c1 => ?_) (fun c1 => ?_)
  · have hf := ifT c1 hf
    exact J39  hf H locs hP hS ls (lv_sub hl [] rfl)
  · have hf := ifF c1 hf
    refine lv_aload_n hx hb dX1_mayStep_7 rfl (lv_at hl 0 rfl) ?_
    refine gx_X1_452_1000 (v := (σ.1 1029)) E hX hD hP rfl dX1_mayStep_8 ?_
    refine lv_bipush hx hb dX1_mayStep_11 bp_100 ?_
    refine lv_icmp_ge (tgt := 39) hx hb dX1_mayStep_13 (by decide) (fun c2 => ?_) (fun c2 => ?_)
    · have hf := ifT c2 hf
      exact J39  hf H locs hP hS ls (lv_sub hl [] rfl)
    · have hf := ifF c2 hf
      refine lv_aload_n hx hb dX1_mayStep_16 rfl (lv_at hl 0 rfl) ?_
      refine gx_X1_128_1000 E hX hD hP dX1_mayStep_17 ?_
      refine lv_aload_n hx hb dX1_mayStep_20 rfl (lv_at hl 0 rfl) ?_
      refine gx_X1_452_1000 (v := (σ.1 1029)) E hX hD hP rfl dX1_mayStep_21 ?_
      obtain ⟨v3, hv3, hf⟩ := bdP hf
      refine p_iald hx hb hX.1 hP (hD.1 _ _ dX_1130) rfl hv3 dX1_mayStep_24 ?_
      refine lv_aload_n hx hb dX1_mayStep_25 rfl (lv_at hl 0 rfl) ?_
      refine gx_X1_33_1000 E hX hD hP dX1_mayStep_26 ?_
      refine gx_X1_256_2000 (v := (σ.1 2013)) E hX hD hP rfl dX1_mayStep_29 ?_
      refine lv_icmp_eq (tgt := 39) hx hb dX1_mayStep_32 (by decide) (fun c4 => ?_) (fun c4 => ?_)
      · have hf := ifT c4 hf
        exact J39  hf H locs hP hS ls (lv_sub hl [] rfl)
      · have hf := ifF c4 hf
        refine lv_iconst hx hb dX1_mayStep_35 ic_1 ?_
        refine lv_goto (tgt := 40) hx hb dX1_mayStep_36 (by decide) ?_
        cases hf
        rw [hQ]; exact g_nret hx hb hr hlk hP hS rfl dX1_mayStep_40
theorem kxX1_mayStep (l : Launch) (D : va_G) (G : Nat → ClassId) {dsc : Nat → Option Dsc} {ad : Nat → Nat} {σ : Sto} {nr nw nu : Nat} (hD : XD dsc nr nw nu) {r_ : Int32} {z_X_isWalking : Int32} (e_zI1027 : σ.1 1027 = z_X_isWalking) {z_X_steps : Int32} (e_zI1029 : σ.1 1029 = z_X_steps) {z_L_to : Int32} (e_zI2013 : σ.1 2013 = z_L_to) {a_X_places : Nat → Int32} (e_aI1130 : σ.2.2.1 1130 = a_X_places) (hf : xo_X1_mayStep z_X_isWalking z_X_steps z_L_to a_X_places = some r_) : CtG l D G dsc ad yX1_mayStep (ws_ yX1_mayStep cX1_mayStep 1 (Option.some Jvm.ClassFile.FieldType.boolean)) rmX1_mayStep [.ref (ad 1000)] σ (some (.int r_)) σ := by
  subst e_zI1027
  subst e_zI1029
  subst e_zI2013
  subst e_aI1130
  exact p_ctG (by decide +kernel) (Nat.le_of_ble_eq_true rfl) (fun p e s m below meth c0 ls A E hP hX hA hS hl => wkX1_mayStep E hX hD hA hf rfl hP hS hl)
/-! X1_step (III)V -/
def sgX1_step (σ : Sto) (w0 : Int32) (w1 : Nat → Int32) (w2 : Nat → Int32) (w3 : Nat → Int32) : Sto := aI (aI (aI (zI σ 1029 w0) 1130 w1) 1131 w2) 1132 w3
theorem sgX1_step_self (σ : Sto) : sgX1_step σ (σ.1 1029) (σ.2.2.1 1130) (σ.2.2.1 1131) (σ.2.2.1 1132) = σ := by
  unfold sgX1_step
  simp only [zI_self, zL_self, aI_self, aL_self]
theorem sgX1_step_zI1029 {σ : Sto} {w0 : Int32} {w1 : Nat → Int32} {w2 : Nat → Int32} {w3 : Nat → Int32} {g : Int32} : zI (sgX1_step σ w0 w1 w2 w3) 1029 g = sgX1_step σ g w1 w2 w3 := (cm_zI_aI _ _ _ _ _).trans (congrArg (fun z => aI z 1132 w3) ((cm_zI_aI _ _ _ _ _).trans (congrArg (fun z => aI z 1131 w2) ((cm_zI_aI _ _ _ _ _).trans (congrArg (fun z => aI z 1130 w1) (zI_zI _ 1029 _ _))))))
theorem sgX1_step_aI1130 {σ : Sto} {w0 : Int32} {w1 : Nat → Int32} {w2 : Nat → Int32} {w3 : Nat → Int32} {g : Nat → Int32} : aI (sgX1_step σ w0 w1 w2 w3) 1130 g = sgX1_step σ w0 g w2 w3 := (aI_comm _ (by decide) _ _).trans (congrArg (fun z => aI z 1132 w3) ((aI_comm _ (by decide) _ _).trans (congrArg (fun z => aI z 1131 w2) (aI_aI _ 1130 _ _))))
theorem sgX1_step_aI1131 {σ : Sto} {w0 : Int32} {w1 : Nat → Int32} {w2 : Nat → Int32} {w3 : Nat → Int32} {g : Nat → Int32} : aI (sgX1_step σ w0 w1 w2 w3) 1131 g = sgX1_step σ w0 w1 g w3 := (aI_comm _ (by decide) _ _).trans (congrArg (fun z => aI z 1132 w3) (aI_aI _ 1131 _ _))
theorem sgX1_step_aI1132 {σ : Sto} {w0 : Int32} {w1 : Nat → Int32} {w2 : Nat → Int32} {w3 : Nat → Int32} {g : Nat → Int32} : aI (sgX1_step σ w0 w1 w2 w3) 1132 g = sgX1_step σ w0 w1 w2 g := aI_aI _ 1132 _ _
theorem sgX1_step_rzI1029 {σ : Sto} {w0 : Int32} {w1 : Nat → Int32} {w2 : Nat → Int32} {w3 : Nat → Int32} : (sgX1_step σ w0 w1 w2 w3).1 1029 = w0 := rfl
theorem sgX1_step_raI1130 {σ : Sto} {w0 : Int32} {w1 : Nat → Int32} {w2 : Nat → Int32} {w3 : Nat → Int32} : (sgX1_step σ w0 w1 w2 w3).2.2.1 1130 = w1 := rfl
theorem sgX1_step_raI1131 {σ : Sto} {w0 : Int32} {w1 : Nat → Int32} {w2 : Nat → Int32} {w3 : Nat → Int32} : (sgX1_step σ w0 w1 w2 w3).2.2.1 1131 = w2 := rfl
theorem sgX1_step_raI1132 {σ : Sto} {w0 : Int32} {w1 : Nat → Int32} {w2 : Nat → Int32} {w3 : Nat → Int32} : (sgX1_step σ w0 w1 w2 w3).2.2.1 1132 = w3 := rfl
abbrev rmX1_step : Room := { frames := 0, cells := 0, slots := 0, locals := 0 }
set_option maxHeartbeats 4000000 in
theorem wkX1_step {x1 : Int32} {x2 : Int32} {x3 : Int32} {w_zI1029 : Int32} {w_aI1130 : Nat → Int32} {w_aI1131 : Nat → Int32} {w_aI1132 : Nat → Int32} (E : EN p s m args meth c0 RX1 cX1_step 4 (Option.none : Option Jvm.ClassFile.FieldType)) (hX : KX D G ad A s s.heap) (hD : XD dsc nr nw nu) (hA : ∀ q, PA dsc ad s.heap.size q → A q) (hf : xo_X1_step (σ.1 1029) (σ.2.2.1 1130) (σ.2.2.1 1131) (σ.2.2.1 1132) x1 x2 x3 = some (w_zI1029, w_aI1130, w_aI1131, w_aI1132)) (hQ : Q = MQ below (va_G1 none (fun t => PIC D clsA G dsc ad (sgX1_step σ w_zI1029 w_aI1130 w_aI1131 w_aI1132) t.heap) A) args s 0 0 A) (hP : PIC D clsA G dsc ad σ H) (hS : va_S A s.heap H locs) (hl : lv_has ls 4 [(0, .ref (ad 1000)), (1, .int x1), (2, .int x2), (3, .int x3)]) : W p l e rmX1_step s m args below meth c0 H locs 0 0 Q (F0 m 0 ls []) := by
  obtain ⟨⟨hx, hb, hml, hown, hts⟩, hr, hlk⟩ := id E
  have hP := hP.to (sgX1_step_self σ).symm
  unfold xo_X1_step at hf
  refine lv_aload_n hx hb dX1_step_0 rfl (lv_at hl 0 rfl) ?_
  refine lv_dup hx hb dX1_step_1 rfl ?_
  refine gx_X1_452_1000 (v := (σ.1 1029)) E hX hD hP sgX1_step_rzI1029 dX1_step_2 ?_
  refine lv_iconst hx hb dX1_step_5 ic_1 ?_
  refine lv_iadd hx hb dX1_step_6 ?_
  obtain ⟨v1, hv1, hf⟩ := bdP hf
  refine nm_i (Option.some.inj hv1) ?_
  refine ux_X1_452_1000 E hX hD hP hS (hA _ (PA_c (hD.1 _ _ dX_1000))) sgX1_step_zI1029 dX1_step_7 (fun H locs hP hS => ?_)
  refine lv_aload_n hx hb dX1_step_10 rfl (lv_at hl 0 rfl) ?_
  refine gx_X1_128_1000 E hX hD hP dX1_step_11 ?_
  refine lv_aload_n hx hb dX1_step_14 rfl (lv_at hl 0 rfl) ?_
  refine gx_X1_452_1000 (v := v1) E hX hD hP sgX1_step_rzI1029 dX1_step_15 ?_
  refine lv_iload_n hx hb dX1_step_18 rfl (lv_at hl 1 rfl) ?_
  obtain ⟨a2, ha2, hf⟩ := bdP hf
  refine p_iast hx hb hX.1 hP hS (hA _ (PA_c (hD.1 _ _ dX_1130))) (hD.1 _ _ dX_1130) sgX1_step_raI1130 ha2 sgX1_step_aI1130 dX1_step_19 (fun H locs hP hS => ?_)
  refine lv_aload_n hx hb dX1_step_20 rfl (lv_at hl 0 rfl) ?_
  refine gx_X1_131_1000 E hX hD hP dX1_step_21 ?_
  refine lv_aload_n hx hb dX1_step_24 rfl (lv_at hl 0 rfl) ?_
  refine gx_X1_452_1000 (v := v1) E hX hD hP sgX1_step_rzI1029 dX1_step_25 ?_
  refine lv_aload_n hx hb dX1_step_28 rfl (lv_at hl 0 rfl) ?_
  refine gx_X1_131_1000 E hX hD hP dX1_step_29 ?_
  refine lv_aload_n hx hb dX1_step_32 rfl (lv_at hl 0 rfl) ?_
  refine gx_X1_452_1000 (v := v1) E hX hD hP sgX1_step_rzI1029 dX1_step_33 ?_
  refine lv_iconst hx hb dX1_step_36 ic_1 ?_
  refine lv_isub hx hb dX1_step_37 ?_
  obtain ⟨v3, hv3, hf⟩ := bdP hf
  refine p_iald hx hb hX.1 hP (hD.1 _ _ dX_1131) sgX1_step_raI1131 hv3 dX1_step_38 ?_
  refine lv_iload_n hx hb dX1_step_39 rfl (lv_at hl 2 rfl) ?_
  refine lv_iadd hx hb dX1_step_40 ?_
  obtain ⟨a4, ha4, hf⟩ := bdP hf
  refine p_iast hx hb hX.1 hP hS (hA _ (PA_c (hD.1 _ _ dX_1131))) (hD.1 _ _ dX_1131) sgX1_step_raI1131 ha4 sgX1_step_aI1131 dX1_step_41 (fun H locs hP hS => ?_)
  refine lv_aload_n hx hb dX1_step_42 rfl (lv_at hl 0 rfl) ?_
  refine gx_X1_134_1000 E hX hD hP dX1_step_43 ?_
  refine lv_aload_n hx hb dX1_step_46 rfl (lv_at hl 0 rfl) ?_
  refine gx_X1_452_1000 (v := v1) E hX hD hP sgX1_step_rzI1029 dX1_step_47 ?_
  refine lv_iload_n hx hb dX1_step_50 rfl (lv_at hl 3 rfl) ?_
  obtain ⟨a5, ha5, hf⟩ := bdP hf
  refine p_iast hx hb hX.1 hP hS (hA _ (PA_c (hD.1 _ _ dX_1132))) (hD.1 _ _ dX_1132) sgX1_step_raI1132 ha5 sgX1_step_aI1132 dX1_step_51 (fun H locs hP hS => ?_)
  cases hf
  rw [hQ]; exact g_vret hx hb hr hlk hP hS dX1_step_52
theorem kxX1_step (l : Launch) (D : va_G) (G : Nat → ClassId) {dsc : Nat → Option Dsc} {ad : Nat → Nat} {σ : Sto} {nr nw nu : Nat} (hD : XD dsc nr nw nu) {x1 : Int32} {x2 : Int32} {x3 : Int32} {w_zI1029 : Int32} {w_aI1130 : Nat → Int32} {w_aI1131 : Nat → Int32} {w_aI1132 : Nat → Int32} {z_X_steps : Int32} (e_zI1029 : σ.1 1029 = z_X_steps) {a_X_places : Nat → Int32} (e_aI1130 : σ.2.2.1 1130 = a_X_places) {a_X_gone : Nat → Int32} (e_aI1131 : σ.2.2.1 1131 = a_X_gone) {a_X_knowns : Nat → Int32} (e_aI1132 : σ.2.2.1 1132 = a_X_knowns) (hf : xo_X1_step z_X_steps a_X_places a_X_gone a_X_knowns x1 x2 x3 = some (w_zI1029, w_aI1130, w_aI1131, w_aI1132)) : CtG l D G dsc ad yX1_step (ws_ yX1_step cX1_step 4 (Option.none : Option Jvm.ClassFile.FieldType)) rmX1_step [.ref (ad 1000), .int x1, .int x2, .int x3] σ none (aI (aI (aI (zI σ 1029 w_zI1029) 1130 w_aI1130) 1131 w_aI1131) 1132 w_aI1132) := by
  subst e_zI1029
  subst e_aI1130
  subst e_aI1131
  subst e_aI1132
  exact p_ctG (by decide +kernel) (Nat.le_of_ble_eq_true rfl) (fun p e s m below meth c0 ls A E hP hX hA hS hl => wkX1_step E hX hD hA hf rfl hP hS hl)
theorem cx_X1_455_X1_mayStep {rm : Room} {σ1 : Sto} {r : Int32} (E : EN p s m args meth c0 RX1 cc nL ret) (hX : KX D G ad A s s.heap) (hD : XD dsc nr nw nu) (hP : PIC D clsA G dsc ad σ H) (hS : va_S A s.heap H locs) (hA : ∀ q, PA dsc ad s.heap.size q → A q) (hM : CtG l D G dsc ad yX1_mayStep (ws_ yX1_mayStep cX1_mayStep 1 (Option.some Jvm.ClassFile.FieldType.boolean)) rm [.ref (ad 1000)] σ (some (.int r)) σ1) (hz : rm.cells = 0 ∧ rm.slots = 0) (hR : rm.frames + 1 ≤ R.frames ∧ 8 + (1 + 11) + rm.locals ≤ R.locals) (hcs : cells ≤ R.cells ∧ slots ≤ R.slots) (hsz : ls.size = nL) (hW : (rest.map fun v => v.category).sum ≤ 8) (hdg : decode cc pc = .ok (.invokevirtual 455, 3)) (kk : ∀ (H1 : Heap) (locs1 : List Loc), PIC D clsA G dsc ad σ1 H1 → va_S A s.heap H1 locs1 → W p l e R s m args below meth c0 H1 locs1 cells slots Q (F0 m (pc + 3) ls (.int r :: rest))) : W p l e R s m args below meth c0 H locs cells slots Q (F0 m pc ls (.ref (ad 1000) :: rest)) :=
  p_gV (As := []) (rest := rest) E.1 hX hP hS hA hM (cwV 0 E.1.2.2.2.2 (lw_V q1529 q1531 qs42 q124 q1532) rfl hz.1 hz.2 (by decide +kernel) hR) (hD.1 _ _ dX_1000) rfl rfl rfl hsz rfl hW hdg hcs kk
theorem cx_X1_458_X1_step {rm : Room} {σ1 : Sto} {x1 : Int32} {x2 : Int32} {x3 : Int32} (E : EN p s m args meth c0 RX1 cc nL ret) (hX : KX D G ad A s s.heap) (hD : XD dsc nr nw nu) (hP : PIC D clsA G dsc ad σ H) (hS : va_S A s.heap H locs) (hA : ∀ q, PA dsc ad s.heap.size q → A q) (hM : CtG l D G dsc ad yX1_step (ws_ yX1_step cX1_step 4 (Option.none : Option Jvm.ClassFile.FieldType)) rm [.ref (ad 1000), .int x1, .int x2, .int x3] σ none σ1) (hz : rm.cells = 0 ∧ rm.slots = 0) (hR : rm.frames + 1 ≤ R.frames ∧ 8 + (4 + 11) + rm.locals ≤ R.locals) (hcs : cells ≤ R.cells ∧ slots ≤ R.slots) (hsz : ls.size = nL) (hW : (rest.map fun v => v.category).sum ≤ 8) (hdg : decode cc pc = .ok (.invokevirtual 458, 3)) (kk : ∀ (H1 : Heap) (locs1 : List Loc), PIC D clsA G dsc ad σ1 H1 → va_S A s.heap H1 locs1 → W p l e R s m args below meth c0 H1 locs1 cells slots Q (F0 m (pc + 3) ls (rest))) : W p l e R s m args below meth c0 H locs cells slots Q (F0 m pc ls (.int x3 :: .int x2 :: .int x1 :: .ref (ad 1000) :: rest)) :=
  p_gV (As := [.int x1, .int x2, .int x3]) (rest := rest) E.1 hX hP hS hA hM (cwV 3 E.1.2.2.2.2 (lw_V q1533 q1535 qs43 q124 q1536) rfl hz.1 hz.2 (by decide +kernel) hR) (hD.1 _ _ dX_1000) rfl rfl rfl hsz rfl hW hdg hcs kk
/-! X1_buy (I)I -/
def sgX1_buy (σ : Sto) (w0 : Int32) (w1 : Nat → Int32) (w2 : Nat → Int32) (w3 : Nat → Int32) : Sto := aI (aI (aI (zI σ 1029 w0) 1130 w1) 1131 w2) 1132 w3
theorem sgX1_buy_self (σ : Sto) : sgX1_buy σ (σ.1 1029) (σ.2.2.1 1130) (σ.2.2.1 1131) (σ.2.2.1 1132) = σ := by
  unfold sgX1_buy
  simp only [zI_self, zL_self, aI_self, aL_self]
theorem sgX1_buy_zI1029 {σ : Sto} {w0 : Int32} {w1 : Nat → Int32} {w2 : Nat → Int32} {w3 : Nat → Int32} {g : Int32} : zI (sgX1_buy σ w0 w1 w2 w3) 1029 g = sgX1_buy σ g w1 w2 w3 := (cm_zI_aI _ _ _ _ _).trans (congrArg (fun z => aI z 1132 w3) ((cm_zI_aI _ _ _ _ _).trans (congrArg (fun z => aI z 1131 w2) ((cm_zI_aI _ _ _ _ _).trans (congrArg (fun z => aI z 1130 w1) (zI_zI _ 1029 _ _))))))
theorem sgX1_buy_aI1130 {σ : Sto} {w0 : Int32} {w1 : Nat → Int32} {w2 : Nat → Int32} {w3 : Nat → Int32} {g : Nat → Int32} : aI (sgX1_buy σ w0 w1 w2 w3) 1130 g = sgX1_buy σ w0 g w2 w3 := (aI_comm _ (by decide) _ _).trans (congrArg (fun z => aI z 1132 w3) ((aI_comm _ (by decide) _ _).trans (congrArg (fun z => aI z 1131 w2) (aI_aI _ 1130 _ _))))
theorem sgX1_buy_aI1131 {σ : Sto} {w0 : Int32} {w1 : Nat → Int32} {w2 : Nat → Int32} {w3 : Nat → Int32} {g : Nat → Int32} : aI (sgX1_buy σ w0 w1 w2 w3) 1131 g = sgX1_buy σ w0 w1 g w3 := (aI_comm _ (by decide) _ _).trans (congrArg (fun z => aI z 1132 w3) (aI_aI _ 1131 _ _))
theorem sgX1_buy_aI1132 {σ : Sto} {w0 : Int32} {w1 : Nat → Int32} {w2 : Nat → Int32} {w3 : Nat → Int32} {g : Nat → Int32} : aI (sgX1_buy σ w0 w1 w2 w3) 1132 g = sgX1_buy σ w0 w1 w2 g := aI_aI _ 1132 _ _
theorem sgX1_buy_rzI1027 {σ : Sto} {w0 : Int32} {w1 : Nat → Int32} {w2 : Nat → Int32} {w3 : Nat → Int32} : (sgX1_buy σ w0 w1 w2 w3).1 1027 = σ.1 1027 := rfl
theorem sgX1_buy_rzI1028 {σ : Sto} {w0 : Int32} {w1 : Nat → Int32} {w2 : Nat → Int32} {w3 : Nat → Int32} : (sgX1_buy σ w0 w1 w2 w3).1 1028 = σ.1 1028 := rfl
theorem sgX1_buy_rzI1029 {σ : Sto} {w0 : Int32} {w1 : Nat → Int32} {w2 : Nat → Int32} {w3 : Nat → Int32} : (sgX1_buy σ w0 w1 w2 w3).1 1029 = w0 := rfl
theorem sgX1_buy_rzI2013 {σ : Sto} {w0 : Int32} {w1 : Nat → Int32} {w2 : Nat → Int32} {w3 : Nat → Int32} : (sgX1_buy σ w0 w1 w2 w3).1 2013 = σ.1 2013 := rfl
theorem sgX1_buy_rzI2032 {σ : Sto} {w0 : Int32} {w1 : Nat → Int32} {w2 : Nat → Int32} {w3 : Nat → Int32} : (sgX1_buy σ w0 w1 w2 w3).1 2032 = σ.1 2032 := rfl
theorem sgX1_buy_raI1130 {σ : Sto} {w0 : Int32} {w1 : Nat → Int32} {w2 : Nat → Int32} {w3 : Nat → Int32} : (sgX1_buy σ w0 w1 w2 w3).2.2.1 1130 = w1 := rfl
theorem sgX1_buy_raI1131 {σ : Sto} {w0 : Int32} {w1 : Nat → Int32} {w2 : Nat → Int32} {w3 : Nat → Int32} : (sgX1_buy σ w0 w1 w2 w3).2.2.1 1131 = w2 := rfl
theorem sgX1_buy_raI1132 {σ : Sto} {w0 : Int32} {w1 : Nat → Int32} {w2 : Nat → Int32} {w3 : Nat → Int32} : (sgX1_buy σ w0 w1 w2 w3).2.2.1 1132 = w3 := rfl
theorem sgX1_buy_raI1170 {σ : Sto} {w0 : Int32} {w1 : Nat → Int32} {w2 : Nat → Int32} {w3 : Nat → Int32} : (sgX1_buy σ w0 w1 w2 w3).2.2.1 1170 = σ.2.2.1 1170 := rfl
theorem sgX1_buy_raI2037 {σ : Sto} {w0 : Int32} {w1 : Nat → Int32} {w2 : Nat → Int32} {w3 : Nat → Int32} : (sgX1_buy σ w0 w1 w2 w3).2.2.1 2037 = σ.2.2.1 2037 := rfl
theorem sgX1_buy_rpW0 {σ : Sto} {w0 : Int32} {w1 : Nat → Int32} {w2 : Nat → Int32} {w3 : Nat → Int32} : (fun k => (sgX1_buy σ w0 w1 w2 w3).1 (8000 + 16 * k + 0)) = (fun k => σ.1 (8000 + 16 * k + 0)) := by
  funext k
  unfold sgX1_buy
  dsimp only [zI, zL, aI, aL]
  repeat rw [if_neg (by omega)]
theorem sgX1_buy_rpW1 {σ : Sto} {w0 : Int32} {w1 : Nat → Int32} {w2 : Nat → Int32} {w3 : Nat → Int32} : (fun k => (sgX1_buy σ w0 w1 w2 w3).1 (8000 + 16 * k + 1)) = (fun k => σ.1 (8000 + 16 * k + 1)) := by
  funext k
  unfold sgX1_buy
  dsimp only [zI, zL, aI, aL]
  repeat rw [if_neg (by omega)]
theorem sgX1_buy_rpW2 {σ : Sto} {w0 : Int32} {w1 : Nat → Int32} {w2 : Nat → Int32} {w3 : Nat → Int32} : (fun k => (sgX1_buy σ w0 w1 w2 w3).1 (8000 + 16 * k + 2)) = (fun k => σ.1 (8000 + 16 * k + 2)) := by
  funext k
  unfold sgX1_buy
  dsimp only [zI, zL, aI, aL]
  repeat rw [if_neg (by omega)]
abbrev rmX1_buy : Room := { frames := 3, cells := 0, slots := 0, locals := 64 }
set_option maxHeartbeats 4000000 in
theorem wkX1_buy {x1 : Int32} {r_ : Int32} {w_zI1029 : Int32} {w_aI1130 : Nat → Int32} {w_aI1131 : Nat → Int32} {w_aI1132 : Nat → Int32} (E : EN p s m args meth c0 RX1 cX1_buy 4 (Option.some Jvm.ClassFile.FieldType.int)) (hX : KX D G ad A s s.heap) (hD : XD dsc nr nw nu) (hA : ∀ q, PA dsc ad s.heap.size q → A q) (hf : xo_X1_buy (σ.1 1027) (σ.1 1028) (σ.1 1029) (σ.1 2013) (σ.1 2032) (σ.2.2.1 1130) (σ.2.2.1 1131) (σ.2.2.1 1132) (σ.2.2.1 1170) (σ.2.2.1 2037) nw (fun k => σ.1 (8000 + 16 * k + 0)) (fun k => σ.1 (8000 + 16 * k + 1)) (fun k => σ.1 (8000 + 16 * k + 2)) x1 = some (r_, w_zI1029, w_aI1130, w_aI1131, w_aI1132)) (hQ : Q = MQ below (va_G1 (some (.int r_)) (fun t => PIC D clsA G dsc ad (sgX1_buy σ w_zI1029 w_aI1130 w_aI1131 w_aI1132) t.heap) A) args s 0 0 A) (hP : PIC D clsA G dsc ad σ H) (hS : va_S A s.heap H locs) (hl : lv_has ls 4 [(0, .ref (ad 1000)), (1, .int x1)]) : W p l e rmX1_buy s m args below meth c0 H locs 0 0 Q (F0 m 0 ls []) := by
  obtain ⟨⟨hx, hb, hml, hown, hts⟩, hr, hlk⟩ := id E
  have hP := hP.to (sgX1_buy_self σ).symm
  unfold xo_X1_buy at hf
  refine lv_aload_n hx hb dX1_buy_0 rfl (lv_at hl 0 rfl) ?_
  obtain ⟨v1, u2, hf⟩ := bdP hf
  refine cx_X1_455_X1_mayStep E hX hD hP hS hA (kxX1_mayStep l D G hD sgX1_buy_rzI1027 sgX1_buy_rzI1029 sgX1_buy_rzI2013 sgX1_buy_raI1130 u2) ⟨rfl, rfl⟩ ⟨Nat.le_of_ble_eq_true rfl, Nat.le_of_ble_eq_true rfl⟩ ⟨Nat.zero_le _, Nat.zero_le _⟩ hl.1 (Nat.le_of_ble_eq_true rfl) dX1_buy_1 (fun H locs hP hS => ?_)
  refine lv_if_eq (tgt := 27) hx hb dX1_buy_4 (by decide) (fun c3 => ?_) (fun c3 => ?_)
  · have hf := ifT c3 hf
    refine lv_iconst hx hb dX1_buy_27 ic_m1 ?_
    cases hf
    rw [hQ]; exact g_iret hx hb hr hlk hP hS dX1_buy_28
  · have hf := ifF c3 hf
    refine lv_iload_n hx hb dX1_buy_7 rfl (lv_at hl 1 rfl) ?_
    refine lv_iconst hx hb dX1_buy_8 ic_0 ?_
    refine lv_aload_n hx hb dX1_buy_9 rfl (lv_at hl 0 rfl) ?_
    refine gx_X1_33_1000 E hX hD hP dX1_buy_10 ?_
    refine gx_X1_398_2000 E hX hD hP dX1_buy_13 ?_
    obtain ⟨v4, u5, hf⟩ := bdP hf
    refine cx_X1_190_J2_size_Lw E hX hD hP hS hA (kxJ2_size_Lw l D G hD sgX1_buy_rzI2032 u5) ⟨rfl, rfl⟩ ⟨Nat.le_of_ble_eq_true rfl, Nat.le_of_ble_eq_true rfl⟩ ⟨Nat.zero_le _, Nat.zero_le _⟩ hl.1 (Nat.le_of_ble_eq_true rfl) dX1_buy_16 (fun H locs hP hS => ?_)
    refine lv_iconst hx hb dX1_buy_19 ic_1 ?_
    refine lv_isub hx hb dX1_buy_20 ?_
    obtain ⟨v6, u7, hf⟩ := bdP hf
    refine cx_X1_143_X1_in E hX hD hP hS hA (kxX1_in l D G hD u7) ⟨rfl, rfl⟩ ⟨Nat.le_of_ble_eq_true rfl, Nat.le_of_ble_eq_true rfl⟩ ⟨Nat.zero_le _, Nat.zero_le _⟩ hl.1 (Nat.le_of_ble_eq_true rfl) dX1_buy_21 (fun H locs hP hS => ?_)
    refine lv_if_ne (tgt := 29) hx hb dX1_buy_24 (by decide) (fun c8 => ?_) (fun c8 => ?_)
    · have hf := ifF c8 hf
      refine lv_aload_n hx hb dX1_buy_29 rfl (lv_at hl 0 rfl) ?_
      refine gx_X1_33_1000 E hX hD hP dX1_buy_30 ?_
      refine gx_X1_398_2000 E hX hD hP dX1_buy_33 ?_
      refine lv_iload_n hx hb dX1_buy_36 rfl (lv_at hl 1 rfl) ?_
      obtain ⟨v9, u10, hf⟩ := bdP hf
      refine cx_X1_197_J2_get_Lw E hX hD hP hS hA (kxJ2_get_Lw l D G hD sgX1_buy_rzI2032 sgX1_buy_raI2037 u10) ⟨rfl, rfl⟩ ⟨Nat.le_of_ble_eq_true rfl, Nat.le_of_ble_eq_true rfl⟩ ⟨Nat.zero_le _, Nat.zero_le _⟩ hl.1 (Nat.le_of_ble_eq_true rfl) dX1_buy_37 (fun H locs hP hS => ?_)
      obtain ⟨v11, hv11, hf⟩ := bdP hf
      refine p_castP (ci := 16) (q := (RX19, TX19, 3)) hx hb hX.1 hP hown (hts _ q1469) hv11 hD.2.2.1 rfl dX1_buy_40 ?_
      refine r_astore_n (lv' := [(2, va_rf (drf ad 8000 v11)), (0, .ref (ad 1000)), (1, .int x1)]) hx hb dX1_buy_43 rfl hl (by decide) rfl (fun ls hl => ?_)
      refine r_aload_n hx hb dX1_buy_44 rfl (lv_at hl 0 rfl) ?_
      obtain ⟨v12, hv12, hf⟩ := bdP hf
      refine gp_X1_403_W E hX hD hP sgX1_buy_rpW0 hv12 dX1_buy_45 ?_
      refine lv_aload_n hx hb dX1_buy_48 rfl (lv_at hl 1 rfl) ?_
      refine gx_X1_128_1000 E hX hD hP dX1_buy_49 ?_
      refine lv_aload_n hx hb dX1_buy_52 rfl (lv_at hl 1 rfl) ?_
      refine gx_X1_452_1000 (v := (σ.1 1029)) E hX hD hP sgX1_buy_rzI1029 dX1_buy_53 ?_
      obtain ⟨v13, hv13, hf⟩ := bdP hf
      refine p_iald hx hb hX.1 hP (hD.1 _ _ dX_1130) sgX1_buy_raI1130 hv13 dX1_buy_56 ?_
      refine lv_icmp_ne (tgt := 79) hx hb dX1_buy_57 (by decide) (fun c14 => ?_) (fun c14 => ?_)
      · have hf := ifF c14 hf
        refine lv_iconst hx hb dX1_buy_79 ic_m1 ?_
        cases hf
        rw [hQ]; exact g_iret hx hb hr hlk hP hS dX1_buy_80
      · have hf := ifT c14 hf
        refine lv_aload_n hx hb dX1_buy_60 rfl (lv_at hl 1 rfl) ?_
        refine gx_X1_134_1000 E hX hD hP dX1_buy_61 ?_
        refine lv_aload_n hx hb dX1_buy_64 rfl (lv_at hl 1 rfl) ?_
        refine gx_X1_452_1000 (v := (σ.1 1029)) E hX hD hP sgX1_buy_rzI1029 dX1_buy_65 ?_
        obtain ⟨v15, hv15, hf⟩ := bdP hf
        refine p_iald hx hb hX.1 hP (hD.1 _ _ dX_1132) sgX1_buy_raI1132 hv15 dX1_buy_68 ?_
        refine r_aload_n hx hb dX1_buy_69 rfl (lv_at hl 0 rfl) ?_
        obtain ⟨v16, hv16, hf⟩ := bdP hf
        refine gp_X1_404_W E hX hD hP sgX1_buy_rpW1 hv16 dX1_buy_70 ?_
        obtain ⟨v17, u18, hf⟩ := bdP hf
        refine cx_X1_290_X1_digit E hX hD hP hS hA (kxX1_digit l D G hD sgX1_buy_raI1170 u18) ⟨rfl, rfl⟩ ⟨Nat.le_of_ble_eq_true rfl, Nat.le_of_ble_eq_true rfl⟩ ⟨Nat.zero_le _, Nat.zero_le _⟩ hl.1 (Nat.le_of_ble_eq_true rfl) dX1_buy_73 (fun H locs hP hS => ?_)
        refine lv_if_eq (tgt := 81) hx hb dX1_buy_76 (by decide) (fun c19 => ?_) (fun c19 => ?_)
        · have hf := ifT c19 hf
          refine lv_iconst hx hb dX1_buy_81 ic_1 ?_
          refine lv_aload_n hx hb dX1_buy_82 rfl (lv_at hl 1 rfl) ?_
          refine gx_X1_450_1000 (v := (σ.1 1028)) E hX hD hP sgX1_buy_rzI1028 dX1_buy_83 ?_
          refine r_aload_n hx hb dX1_buy_86 rfl (lv_at hl 0 rfl) ?_
          obtain ⟨v20, hv20, hf⟩ := bdP hf
          refine gp_X1_404_W E hX hD hP sgX1_buy_rpW1 hv20 dX1_buy_87 ?_
          refine lv_ishr hx hb dX1_buy_90 ?_
          refine lv_iconst hx hb dX1_buy_91 ic_1 ?_
          refine lv_iand hx hb dX1_buy_92 ?_
          refine lv_iadd hx hb dX1_buy_93 ?_
          obtain ⟨v21, hv21, hf⟩ := bdP hf
          refine nm_i (Option.some.inj hv21) ?_
          refine lv_istore_n (i := 3) (lv' := [(3, .int v21), (2, va_rf (drf ad 8000 v11)), (0, .ref (ad 1000)), (1, .int x1)]) hx hb dX1_buy_94 rfl hl (by decide) (by simp [List.filter_cons, rf_cat]) (fun ls hl => ?_)
          refine lv_aload_n hx hb dX1_buy_95 rfl (lv_at hl 2 rfl) ?_
          refine r_aload_n hx hb dX1_buy_96 rfl (lv_at hl 1 rfl) ?_
          obtain ⟨v22, hv22, hf⟩ := bdP hf
          refine gp_X1_403_W E hX hD hP sgX1_buy_rpW0 hv22 dX1_buy_97 ?_
          refine r_aload_n hx hb dX1_buy_100 rfl (lv_at hl 1 rfl) ?_
          obtain ⟨v23, hv23, hf⟩ := bdP hf
          refine gp_X1_407_W E hX hD hP sgX1_buy_rpW2 hv23 dX1_buy_101 ?_
          refine lv_aload_n hx hb dX1_buy_104 rfl (lv_at hl 2 rfl) ?_
          refine gx_X1_134_1000 E hX hD hP dX1_buy_105 ?_
          refine lv_aload_n hx hb dX1_buy_108 rfl (lv_at hl 2 rfl) ?_
          refine gx_X1_452_1000 (v := (σ.1 1029)) E hX hD hP sgX1_buy_rzI1029 dX1_buy_109 ?_
          obtain ⟨v24, hv24, hf⟩ := bdP hf
          refine p_iald hx hb hX.1 hP (hD.1 _ _ dX_1132) sgX1_buy_raI1132 hv24 dX1_buy_112 ?_
          refine r_aload_n hx hb dX1_buy_113 rfl (lv_at hl 1 rfl) ?_
          obtain ⟨v25, hv25, hf⟩ := bdP hf
          refine gp_X1_404_W E hX hD hP sgX1_buy_rpW1 hv25 dX1_buy_114 ?_
          refine lv_iload_n hx hb dX1_buy_117 rfl (lv_at hl 0 rfl) ?_
          obtain ⟨v26, u27, hf⟩ := bdP hf
          refine cx_X1_249_X1_with E hX hD hP hS hA (kxX1_with l D G hD sgX1_buy_raI1170 u27) ⟨rfl, rfl⟩ ⟨Nat.le_of_ble_eq_true rfl, Nat.le_of_ble_eq_true rfl⟩ ⟨Nat.zero_le _, Nat.zero_le _⟩ hl.1 (Nat.le_of_ble_eq_true rfl) dX1_buy_118 (fun H locs hP hS => ?_)
          obtain ⟨⟨z28, a29, a30, a31⟩, u32, hf⟩ := bdP hf
          dsimp only at hf
          refine cx_X1_458_X1_step E hX hD hP hS hA (kxX1_step l D G hD sgX1_buy_rzI1029 sgX1_buy_raI1130 sgX1_buy_raI1131 sgX1_buy_raI1132 u32) ⟨rfl, rfl⟩ ⟨Nat.le_of_ble_eq_true rfl, Nat.le_of_ble_eq_true rfl⟩ ⟨Nat.zero_le _, Nat.zero_le _⟩ hl.1 (Nat.le_of_ble_eq_true rfl) dX1_buy_121 (fun H locs hP hS => ?_)
          rw [sgX1_buy_zI1029, sgX1_buy_aI1130, sgX1_buy_aI1131, sgX1_buy_aI1132] at hP
          refine lv_iload_n hx hb dX1_buy_124 rfl (lv_at hl 0 rfl) ?_
          cases hf
          rw [hQ]; exact g_iret hx hb hr hlk hP hS dX1_buy_125
        · have hf := ifF c19 hf
          refine lv_iconst hx hb dX1_buy_79 ic_m1 ?_
          cases hf
          rw [hQ]; exact g_iret hx hb hr hlk hP hS dX1_buy_80
    · have hf := ifT c8 hf
      refine lv_iconst hx hb dX1_buy_27 ic_m1 ?_
      cases hf
      rw [hQ]; exact g_iret hx hb hr hlk hP hS dX1_buy_28
theorem kxX1_buy (l : Launch) (D : va_G) (G : Nat → ClassId) {dsc : Nat → Option Dsc} {ad : Nat → Nat} {σ : Sto} {nr nw nu : Nat} (hD : XD dsc nr nw nu) {x1 : Int32} {r_ : Int32} {w_zI1029 : Int32} {w_aI1130 : Nat → Int32} {w_aI1131 : Nat → Int32} {w_aI1132 : Nat → Int32} {z_X_isWalking : Int32} (e_zI1027 : σ.1 1027 = z_X_isWalking) {z_X_world : Int32} (e_zI1028 : σ.1 1028 = z_X_world) {z_X_steps : Int32} (e_zI1029 : σ.1 1029 = z_X_steps) {z_L_to : Int32} (e_zI2013 : σ.1 2013 = z_L_to) {z_Lw_size : Int32} (e_zI2032 : σ.1 2032 = z_Lw_size) {a_X_places : Nat → Int32} (e_aI1130 : σ.2.2.1 1130 = a_X_places) {a_X_gone : Nat → Int32} (e_aI1131 : σ.2.2.1 1131 = a_X_gone) {a_X_knowns : Nat → Int32} (e_aI1132 : σ.2.2.1 1132 = a_X_knowns) {a_UNIT : Nat → Int32} (e_aI1170 : σ.2.2.1 1170 = a_UNIT) {a_Lw_data : Nat → Int32} (e_aI2037 : σ.2.2.1 2037 = a_Lw_data) {n_w : Nat} (e_nN1 : nw = n_w) {p_word_place : Nat → Int32} (e_pW0 : (fun k => σ.1 (8000 + 16 * k + 0)) = p_word_place) {p_word_road : Nat → Int32} (e_pW1 : (fun k => σ.1 (8000 + 16 * k + 1)) = p_word_road) {p_word_hours : Nat → Int32} (e_pW2 : (fun k => σ.1 (8000 + 16 * k + 2)) = p_word_hours) (hf : xo_X1_buy z_X_isWalking z_X_world z_X_steps z_L_to z_Lw_size a_X_places a_X_gone a_X_knowns a_UNIT a_Lw_data n_w p_word_place p_word_road p_word_hours x1 = some (r_, w_zI1029, w_aI1130, w_aI1131, w_aI1132)) : CtG l D G dsc ad yX1_buy (ws_ yX1_buy cX1_buy 4 (Option.some Jvm.ClassFile.FieldType.int)) rmX1_buy [.ref (ad 1000), .int x1] σ (some (.int r_)) (aI (aI (aI (zI σ 1029 w_zI1029) 1130 w_aI1130) 1131 w_aI1131) 1132 w_aI1132) := by
  subst e_zI1027
  subst e_zI1028
  subst e_zI1029
  subst e_zI2013
  subst e_zI2032
  subst e_aI1130
  subst e_aI1131
  subst e_aI1132
  subst e_aI1170
  subst e_aI2037
  subst e_nN1
  subst e_pW0
  subst e_pW1
  subst e_pW2
  exact p_ctG (by decide +kernel) (Nat.le_of_ble_eq_true rfl) (fun p e s m below meth c0 ls A E hP hX hA hS hl => wkX1_buy E hX hD hA hf rfl hP hS hl)
theorem gx_X1_77_1000 (E : EN p s m args meth c0 RX1 cc nL ret) (hX : KX D G ad A s s.heap) (hD : XD dsc nr nw nu) (hP : PIC D clsA G dsc ad σ H) (hdg : decode cc pc = .ok (.getfield 77, 3)) (kk : W p l e R s m args below meth c0 H locs cells slots Q (F0 m (pc + 3) ls (.ref (ad 1480) :: rest))) : W p l e R s m args below meth c0 H locs cells slots Q (F0 m pc ls (.ref (ad 1000) :: rest)) :=
  p_get E.1.1 E.1.2.1 E.1.2.2.2.2 in_X1 E.1.2.2.2.1 hX.1 hP (hD.1 _ _ dX_1000) rfl 13 (by decide) (E.1.2.2.2.2 _ q524) (fun _ h => h) rfl rfl hdg kk
theorem gx_X1_165_1480 {v : Int32} (E : EN p s m args meth c0 RX1 cc nL ret) (hX : KX D G ad A s s.heap) (hD : XD dsc nr nw nu) (hP : PIC D clsA G dsc ad σ H) (hv : σ.1 1485 = v) (hdg : decode cc pc = .ok (.getfield 165, 3)) (kk : W p l e R s m args below meth c0 H locs cells slots Q (F0 m (pc + 3) ls (.int v :: rest))) : W p l e R s m args below meth c0 H locs cells slots Q (F0 m pc ls (.ref (ad 1480) :: rest)) :=
  p_getN E.1.1 E.1.2.1 E.1.2.2.2.2 in_X12 E.1.2.2.2.1 hX.1 hP (hD.1 _ _ dX_1480) rfl 5 (by decide) (hX.2.1.1 _ q430 rfl) (fun _ h => h) rfl (congrArg Value.int hv) hdg kk
theorem ux_X1_165_1480 {v : Int32} {σ1 : Sto} (E : EN p s m args meth c0 RX1 cc nL ret) (hX : KX D G ad A s s.heap) (hD : XD dsc nr nw nu) (hP : PIC D clsA G dsc ad σ H) (hS : va_S A s.heap H locs) (hA : A (ad 1480)) (hσ : zI σ 1485 v = σ1) (hdg : decode cc pc = .ok (.putfield 165, 3)) (kk : ∀ (H1 : Heap) (locs1 : List Loc), PIC D clsA G dsc ad σ1 H1 → va_S A s.heap H1 locs1 → W p l e R s m args below meth c0 H1 locs1 cells slots Q (F0 m (pc + 3) ls rest)) : W p l e R s m args below meth c0 H locs cells slots Q (F0 m pc ls (.int v :: .ref (ad 1480) :: rest)) :=
  p_puti2N E.1.1 E.1.2.1 E.1.2.2.2.2 in_X12 tyX12 tyX12_ok E.1.2.2.2.1 hX.1 hP hS hA (hD.1 _ _ dX_1480) rfl 5 (by decide) (by decide +kernel) (hX.2.1.1 _ q430 rfl) (fun _ h => h) rfl rfl rfl rfl rfl hσ hdg kk
/-! X1_clear ()I -/
def sgX1_clear (σ : Sto) (w0 : Int32) : Sto := zI σ 1485 w0
theorem sgX1_clear_self (σ : Sto) : sgX1_clear σ (σ.1 1485) = σ := by
  unfold sgX1_clear
  simp only [zI_self, zL_self, aI_self, aL_self]
theorem sgX1_clear_zI1485 {σ : Sto} {w0 : Int32} {g : Int32} : zI (sgX1_clear σ w0) 1485 g = sgX1_clear σ g := zI_zI _ 1485 _ _
theorem sgX1_clear_rzI1485 {σ : Sto} {w0 : Int32} : (sgX1_clear σ w0).1 1485 = w0 := rfl
abbrev rmX1_clear : Room := { frames := 0, cells := 0, slots := 0, locals := 0 }
set_option maxHeartbeats 4000000 in
theorem wkX1_clear {r_ : Int32} {w_zI1485 : Int32} (E : EN p s m args meth c0 RX1 cX1_clear 2 (Option.some Jvm.ClassFile.FieldType.int)) (hX : KX D G ad A s s.heap) (hD : XD dsc nr nw nu) (hA : ∀ q, PA dsc ad s.heap.size q → A q) (hf : xo_X1_clear (σ.1 1485) = some (r_, w_zI1485)) (hQ : Q = MQ below (va_G1 (some (.int r_)) (fun t => PIC D clsA G dsc ad (sgX1_clear σ w_zI1485) t.heap) A) args s 0 0 A) (hP : PIC D clsA G dsc ad σ H) (hS : va_S A s.heap H locs) (hl : lv_has ls 2 [(0, .ref (ad 1000))]) : W p l e rmX1_clear s m args below meth c0 H locs 0 0 Q (F0 m 0 ls []) := by
  obtain ⟨⟨hx, hb, hml, hown, hts⟩, hr, hlk⟩ := id E
  have hP := hP.to (sgX1_clear_self σ).symm
  unfold xo_X1_clear at hf
  refine lv_aload_n hx hb dX1_clear_0 rfl (lv_at hl 0 rfl) ?_
  refine gx_X1_77_1000 E hX hD hP dX1_clear_1 ?_
  refine gx_X1_165_1480 (v := (σ.1 1485)) E hX hD hP sgX1_clear_rzI1485 dX1_clear_4 ?_
  refine lv_istore_n (lv' := [(1, .int (σ.1 1485)), (0, .ref (ad 1000))]) hx hb dX1_clear_7 rfl hl (by decide) rfl (fun ls hl => ?_)
  refine lv_aload_n hx hb dX1_clear_8 rfl (lv_at hl 1 rfl) ?_
  refine gx_X1_77_1000 E hX hD hP dX1_clear_9 ?_
  refine lv_iconst hx hb dX1_clear_12 ic_0 ?_
  refine ux_X1_165_1480 E hX hD hP hS (hA _ (PA_c (hD.1 _ _ dX_1480))) sgX1_clear_zI1485 dX1_clear_13 (fun H locs hP hS => ?_)
  refine lv_iload_n hx hb dX1_clear_16 rfl (lv_at hl 0 rfl) ?_
  cases hf
  rw [hQ]; exact g_iret hx hb hr hlk hP hS dX1_clear_17
theorem kxX1_clear (l : Launch) (D : va_G) (G : Nat → ClassId) {dsc : Nat → Option Dsc} {ad : Nat → Nat} {σ : Sto} {nr nw nu : Nat} (hD : XD dsc nr nw nu) {r_ : Int32} {w_zI1485 : Int32} {z_p5_many : Int32} (e_zI1485 : σ.1 1485 = z_p5_many) (hf : xo_X1_clear z_p5_many = some (r_, w_zI1485)) : CtG l D G dsc ad yX1_clear (ws_ yX1_clear cX1_clear 2 (Option.some Jvm.ClassFile.FieldType.int)) rmX1_clear [.ref (ad 1000)] σ (some (.int r_)) (zI σ 1485 w_zI1485) := by
  subst e_zI1485
  exact p_ctG (by decide +kernel) (Nat.le_of_ble_eq_true rfl) (fun p e s m below meth c0 ls A E hP hX hA hS hl => wkX1_clear E hX hD hA hf rfl hP hS hl)
theorem gx_X1_187_2000 (E : EN p s m args meth c0 RX1 cc nL ret) (hX : KX D G ad A s s.heap) (hD : XD dsc nr nw nu) (hP : PIC D clsA G dsc ad σ H) (hdg : decode cc pc = .ok (.getfield 187, 3)) (kk : W p l e R s m args below meth c0 H locs cells slots Q (F0 m (pc + 3) ls (.ref (ad 2020) :: rest))) : W p l e R s m args below meth c0 H locs cells slots Q (F0 m pc ls (.ref (ad 2000) :: rest)) :=
  p_getN E.1.1 E.1.2.1 E.1.2.2.2.2 in_X3 E.1.2.2.2.1 hX.1 hP (hD.1 _ _ dX_2000) rfl 0 (by decide) (hX.2.1.1 _ q239 rfl) (fun _ h => h) rfl rfl hdg kk
theorem cx_X1_190_J2_size_Lr {rm : Room} {σ1 : Sto} {r : Int32} (E : EN p s m args meth c0 RX1 cc nL ret) (hX : KX D G ad A s s.heap) (hD : XD dsc nr nw nu) (hP : PIC D clsA G dsc ad σ H) (hS : va_S A s.heap H locs) (hA : ∀ q, PA dsc ad s.heap.size q → A q) (hM : CtG l D G dsc ad yJ2_size (ws_ yJ2_size cJ2_size 1 (Option.some Jvm.ClassFile.FieldType.int)) rm [.ref (ad 2020)] σ (some (.int r)) σ1) (hz : rm.cells = 0 ∧ rm.slots = 0) (hR : rm.frames + 1 ≤ R.frames ∧ 8 + (1 + 11) + rm.locals ≤ R.locals) (hcs : cells ≤ R.cells ∧ slots ≤ R.slots) (hsz : ls.size = nL) (hW : (rest.map fun v => v.category).sum ≤ 8) (hdg : decode cc pc = .ok (.invokevirtual 190, 3)) (kk : ∀ (H1 : Heap) (locs1 : List Loc), PIC D clsA G dsc ad σ1 H1 → va_S A s.heap H1 locs1 → W p l e R s m args below meth c0 H1 locs1 cells slots Q (F0 m (pc + 3) ls (.int r :: rest))) : W p l e R s m args below meth c0 H locs cells slots Q (F0 m pc ls (.ref (ad 2020) :: rest)) :=
  p_gV (As := []) (rest := rest) E.1 hX hP hS hA hM (cwV 0 E.1.2.2.2.2 (lw_V q1197 q780 q781 q129 q782) rfl hz.1 hz.2 (by decide +kernel) hR) (hD.1 _ _ dX_2020) rfl rfl rfl hsz rfl hW hdg hcs kk
theorem gx_X1_96_1000 (E : EN p s m args meth c0 RX1 cc nL ret) (hX : KX D G ad A s s.heap) (hD : XD dsc nr nw nu) (hP : PIC D clsA G dsc ad σ H) (hdg : decode cc pc = .ok (.getfield 96, 3)) (kk : W p l e R s m args below meth c0 H locs cells slots Q (F0 m (pc + 3) ls (.ref (ad 1260) :: rest))) : W p l e R s m args below meth c0 H locs cells slots Q (F0 m pc ls (.ref (ad 1000) :: rest)) :=
  p_get E.1.1 E.1.2.1 E.1.2.2.2.2 in_X1 E.1.2.2.2.1 hX.1 hP (hD.1 _ _ dX_1000) rfl 16 (by decide) (E.1.2.2.2.2 _ q528) (fun _ h => h) rfl rfl hdg kk
theorem cx_X1_190_J2_size_ru {rm : Room} {σ1 : Sto} {r : Int32} (E : EN p s m args meth c0 RX1 cc nL ret) (hX : KX D G ad A s s.heap) (hD : XD dsc nr nw nu) (hP : PIC D clsA G dsc ad σ H) (hS : va_S A s.heap H locs) (hA : ∀ q, PA dsc ad s.heap.size q → A q) (hM : CtG l D G dsc ad yJ2_size (ws_ yJ2_size cJ2_size 1 (Option.some Jvm.ClassFile.FieldType.int)) rm [.ref (ad 1260)] σ (some (.int r)) σ1) (hz : rm.cells = 0 ∧ rm.slots = 0) (hR : rm.frames + 1 ≤ R.frames ∧ 8 + (1 + 11) + rm.locals ≤ R.locals) (hcs : cells ≤ R.cells ∧ slots ≤ R.slots) (hsz : ls.size = nL) (hW : (rest.map fun v => v.category).sum ≤ 8) (hdg : decode cc pc = .ok (.invokevirtual 190, 3)) (kk : ∀ (H1 : Heap) (locs1 : List Loc), PIC D clsA G dsc ad σ1 H1 → va_S A s.heap H1 locs1 → W p l e R s m args below meth c0 H1 locs1 cells slots Q (F0 m (pc + 3) ls (.int r :: rest))) : W p l e R s m args below meth c0 H locs cells slots Q (F0 m pc ls (.ref (ad 1260) :: rest)) :=
  p_gV (As := []) (rest := rest) E.1 hX hP hS hA hM (cwV 0 E.1.2.2.2.2 (lw_V q1197 q780 q781 q129 q782) rfl hz.1 hz.2 (by decide +kernel) hR) (hD.1 _ _ dX_1260) rfl rfl rfl hsz rfl hW hdg hcs kk
/-! X1_count (I)I -/
abbrev rmX1_count : Room := { frames := 1, cells := 0, slots := 0, locals := 20 }
set_option maxHeartbeats 4000000 in
theorem wkX1_count {x1 : Int32} {r_ : Int32} (E : EN p s m args meth c0 RX1 cX1_count 2 (Option.some Jvm.ClassFile.FieldType.int)) (hX : KX D G ad A s s.heap) (hD : XD dsc nr nw nu) (hA : ∀ q, PA dsc ad s.heap.size q → A q) (hf : xo_X1_count (σ.1 1262) (σ.1 1485) (σ.1 2008) (σ.1 2009) (σ.1 2012) (σ.1 2013) (σ.1 2022) (σ.1 2027) (σ.1 2032) x1 = some r_) (hQ : Q = MQ below (va_G1 (some (.int r_)) (fun t => PIC D clsA G dsc ad σ t.heap) A) args s 0 0 A) (hP : PIC D clsA G dsc ad σ H) (hS : va_S A s.heap H locs) (hl : lv_has ls 2 [(0, .ref (ad 1000)), (1, .int x1)]) : W p l e rmX1_count s m args below meth c0 H locs 0 0 Q (F0 m 0 ls []) := by
  obtain ⟨⟨hx, hb, hml, hown, hts⟩, hr, hlk⟩ := id E
  unfold xo_X1_count at hf
  refine lv_iload_n hx hb dX1_count_0 rfl (lv_at hl 1 rfl) ?_
  by_cases c1 : x1 = 0
  · have hf := ifT c1 hf
    refine lv_tableIn (tgt := 52) (off := 51) hx hb dX1_count_1 (by rw [c1]; decide) (by rw [c1]; decide) (by rw [c1]; decide) (by decide) ?_
    refine lv_aload_n hx hb dX1_count_52 rfl (lv_at hl 0 rfl) ?_
    refine gx_X1_33_1000 E hX hD hP dX1_count_53 ?_
    refine gx_X1_268_2000 (v := (σ.1 2008)) E hX hD hP rfl dX1_count_56 ?_
    cases hf
    rw [hQ]; exact g_iret hx hb hr hlk hP hS dX1_count_59
  have hf := ifF c1 hf
  by_cases c2 : x1 = 1
  · have hf := ifT c2 hf
    refine lv_tableIn (tgt := 60) (off := 59) hx hb dX1_count_1 (by rw [c2]; decide) (by rw [c2]; decide) (by rw [c2]; decide) (by decide) ?_
    refine lv_aload_n hx hb dX1_count_60 rfl (lv_at hl 0 rfl) ?_
    refine gx_X1_33_1000 E hX hD hP dX1_count_61 ?_
    refine gx_X1_187_2000 E hX hD hP dX1_count_64 ?_
    obtain ⟨v3, u4, hf⟩ := bdP hf
    refine cx_X1_190_J2_size_Lr E hX hD hP hS hA (kxJ2_size_Lr l D G hD rfl u4) ⟨rfl, rfl⟩ ⟨Nat.le_of_ble_eq_true rfl, Nat.le_of_ble_eq_true rfl⟩ ⟨Nat.zero_le _, Nat.zero_le _⟩ hl.1 (Nat.le_of_ble_eq_true rfl) dX1_count_67 (fun H locs hP hS => ?_)
    cases hf
    rw [hQ]; exact g_iret hx hb hr hlk hP hS dX1_count_70
  have hf := ifF c2 hf
  by_cases c5 : x1 = 2
  · have hf := ifT c5 hf
    refine lv_tableIn (tgt := 71) (off := 70) hx hb dX1_count_1 (by rw [c5]; decide) (by rw [c5]; decide) (by rw [c5]; decide) (by decide) ?_
    refine lv_aload_n hx hb dX1_count_71 rfl (lv_at hl 0 rfl) ?_
    refine gx_X1_33_1000 E hX hD hP dX1_count_72 ?_
    refine gx_X1_246_2000 E hX hD hP dX1_count_75 ?_
    obtain ⟨v6, u7, hf⟩ := bdP hf
    refine cx_X1_190_J2_size_Ld E hX hD hP hS hA (kxJ2_size_Ld l D G hD rfl u7) ⟨rfl, rfl⟩ ⟨Nat.le_of_ble_eq_true rfl, Nat.le_of_ble_eq_true rfl⟩ ⟨Nat.zero_le _, Nat.zero_le _⟩ hl.1 (Nat.le_of_ble_eq_true rfl) dX1_count_78 (fun H locs hP hS => ?_)
    cases hf
    rw [hQ]; exact g_iret hx hb hr hlk hP hS dX1_count_81
  have hf := ifF c5 hf
  by_cases c8 : x1 = 3
  · have hf := ifT c8 hf
    refine lv_tableIn (tgt := 82) (off := 81) hx hb dX1_count_1 (by rw [c8]; decide) (by rw [c8]; decide) (by rw [c8]; decide) (by decide) ?_
    refine lv_aload_n hx hb dX1_count_82 rfl (lv_at hl 0 rfl) ?_
    refine gx_X1_33_1000 E hX hD hP dX1_count_83 ?_
    refine gx_X1_444_2000 (v := (σ.1 2009)) E hX hD hP rfl dX1_count_86 ?_
    cases hf
    rw [hQ]; exact g_iret hx hb hr hlk hP hS dX1_count_89
  have hf := ifF c8 hf
  by_cases c9 : x1 = 4
  · have hf := ifT c9 hf
    refine lv_tableIn (tgt := 90) (off := 89) hx hb dX1_count_1 (by rw [c9]; decide) (by rw [c9]; decide) (by rw [c9]; decide) (by decide) ?_
    refine lv_aload_n hx hb dX1_count_90 rfl (lv_at hl 0 rfl) ?_
    refine gx_X1_33_1000 E hX hD hP dX1_count_91 ?_
    refine gx_X1_398_2000 E hX hD hP dX1_count_94 ?_
    obtain ⟨v10, u11, hf⟩ := bdP hf
    refine cx_X1_190_J2_size_Lw E hX hD hP hS hA (kxJ2_size_Lw l D G hD rfl u11) ⟨rfl, rfl⟩ ⟨Nat.le_of_ble_eq_true rfl, Nat.le_of_ble_eq_true rfl⟩ ⟨Nat.zero_le _, Nat.zero_le _⟩ hl.1 (Nat.le_of_ble_eq_true rfl) dX1_count_97 (fun H locs hP hS => ?_)
    cases hf
    rw [hQ]; exact g_iret hx hb hr hlk hP hS dX1_count_100
  have hf := ifF c9 hf
  by_cases c12 : x1 = 5
  · have hf := ifT c12 hf
    refine lv_tableIn (tgt := 101) (off := 100) hx hb dX1_count_1 (by rw [c12]; decide) (by rw [c12]; decide) (by rw [c12]; decide) (by decide) ?_
    refine lv_aload_n hx hb dX1_count_101 rfl (lv_at hl 0 rfl) ?_
    refine gx_X1_33_1000 E hX hD hP dX1_count_102 ?_
    refine gx_X1_253_2000 (v := (σ.1 2012)) E hX hD hP rfl dX1_count_105 ?_
    cases hf
    rw [hQ]; exact g_iret hx hb hr hlk hP hS dX1_count_108
  have hf := ifF c12 hf
  by_cases c13 : x1 = 6
  · have hf := ifT c13 hf
    refine lv_tableIn (tgt := 109) (off := 108) hx hb dX1_count_1 (by rw [c13]; decide) (by rw [c13]; decide) (by rw [c13]; decide) (by decide) ?_
    refine lv_aload_n hx hb dX1_count_109 rfl (lv_at hl 0 rfl) ?_
    refine gx_X1_33_1000 E hX hD hP dX1_count_110 ?_
    refine gx_X1_256_2000 (v := (σ.1 2013)) E hX hD hP rfl dX1_count_113 ?_
    cases hf
    rw [hQ]; exact g_iret hx hb hr hlk hP hS dX1_count_116
  have hf := ifF c13 hf
  by_cases c14 : x1 = 7
  · have hf := ifT c14 hf
    refine lv_tableIn (tgt := 117) (off := 116) hx hb dX1_count_1 (by rw [c14]; decide) (by rw [c14]; decide) (by rw [c14]; decide) (by decide) ?_
    refine lv_aload_n hx hb dX1_count_117 rfl (lv_at hl 0 rfl) ?_
    refine gx_X1_96_1000 E hX hD hP dX1_count_118 ?_
    obtain ⟨v15, u16, hf⟩ := bdP hf
    refine cx_X1_190_J2_size_ru E hX hD hP hS hA (kxJ2_size_ru l D G hD rfl u16) ⟨rfl, rfl⟩ ⟨Nat.le_of_ble_eq_true rfl, Nat.le_of_ble_eq_true rfl⟩ ⟨Nat.zero_le _, Nat.zero_le _⟩ hl.1 (Nat.le_of_ble_eq_true rfl) dX1_count_121 (fun H locs hP hS => ?_)
    cases hf
    rw [hQ]; exact g_iret hx hb hr hlk hP hS dX1_count_124
  have hf := ifF c14 hf
  by_cases c17 : x1 = 8
  · have hf := ifT c17 hf
    refine lv_tableIn (tgt := 125) (off := 124) hx hb dX1_count_1 (by rw [c17]; decide) (by rw [c17]; decide) (by rw [c17]; decide) (by decide) ?_
    refine lv_aload_n hx hb dX1_count_125 rfl (lv_at hl 0 rfl) ?_
    refine gx_X1_77_1000 E hX hD hP dX1_count_126 ?_
    refine gx_X1_165_1480 (v := (σ.1 1485)) E hX hD hP rfl dX1_count_129 ?_
    cases hf
    rw [hQ]; exact g_iret hx hb hr hlk hP hS dX1_count_132
  have hf := ifF c17 hf
  refine lv_tableOut (tgt := 133) hx hb dX1_count_1 (sw_out9 c1 c2 c5 c8 c9 c12 c13 c14 c17) (by decide) ?_
  refine lv_iconst hx hb dX1_count_133 ic_m1 ?_
  cases hf
  rw [hQ]; exact g_iret hx hb hr hlk hP hS dX1_count_134
theorem kxX1_count (l : Launch) (D : va_G) (G : Nat → ClassId) {dsc : Nat → Option Dsc} {ad : Nat → Nat} {σ : Sto} {nr nw nu : Nat} (hD : XD dsc nr nw nu) {x1 : Int32} {r_ : Int32} {z_ru_size : Int32} (e_zI1262 : σ.1 1262 = z_ru_size) {z_p5_many : Int32} (e_zI1485 : σ.1 1485 = z_p5_many) {z_L_places : Int32} (e_zI2008 : σ.1 2008 = z_L_places) {z_L_causes : Int32} (e_zI2009 : σ.1 2009 = z_L_causes) {z_L_from : Int32} (e_zI2012 : σ.1 2012 = z_L_from) {z_L_to : Int32} (e_zI2013 : σ.1 2013 = z_L_to) {z_Lr_size : Int32} (e_zI2022 : σ.1 2022 = z_Lr_size) {z_Ld_size : Int32} (e_zI2027 : σ.1 2027 = z_Ld_size) {z_Lw_size : Int32} (e_zI2032 : σ.1 2032 = z_Lw_size) (hf : xo_X1_count z_ru_size z_p5_many z_L_places z_L_causes z_L_from z_L_to z_Lr_size z_Ld_size z_Lw_size x1 = some r_) : CtG l D G dsc ad yX1_count (ws_ yX1_count cX1_count 2 (Option.some Jvm.ClassFile.FieldType.int)) rmX1_count [.ref (ad 1000), .int x1] σ (some (.int r_)) σ := by
  subst e_zI1262
  subst e_zI1485
  subst e_zI2008
  subst e_zI2009
  subst e_zI2012
  subst e_zI2013
  subst e_zI2022
  subst e_zI2027
  subst e_zI2032
  exact p_ctG (by decide +kernel) (Nat.le_of_ble_eq_true rfl) (fun p e s m below meth c0 ls A E hP hX hA hS hl => wkX1_count E hX hD hA hf rfl hP hS hl)
/-! X1_isDoubtful (I)Z -/
abbrev rmX1_isDoubtful : Room := { frames := 1, cells := 0, slots := 0, locals := 22 }
set_option maxHeartbeats 4000000 in
theorem wkX1_isDoubtful {x1 : Int32} {r_ : Int32} (E : EN p s m args meth c0 RX1 cX1_isDoubtful 2 (Option.some Jvm.ClassFile.FieldType.boolean)) (hX : KX D G ad A s s.heap) (hD : XD dsc nr nw nu) (hA : ∀ q, PA dsc ad s.heap.size q → A q) (hf : xo_X1_isDoubtful (σ.1 2027) x1 = some r_) (hQ : Q = MQ below (va_G1 (some (.int r_)) (fun t => PIC D clsA G dsc ad σ t.heap) A) args s 0 0 A) (hP : PIC D clsA G dsc ad σ H) (hS : va_S A s.heap H locs) (hl : lv_has ls 2 [(0, .ref (ad 1000)), (1, .int x1)]) : W p l e rmX1_isDoubtful s m args below meth c0 H locs 0 0 Q (F0 m 0 ls []) := by
  obtain ⟨⟨hx, hb, hml, hown, hts⟩, hr, hlk⟩ := id E
  unfold xo_X1_isDoubtful at hf
  refine lv_iload_n hx hb dX1_isDoubtful_0 rfl (lv_at hl 1 rfl) ?_
  refine lv_iconst hx hb dX1_isDoubtful_1 ic_0 ?_
  refine lv_aload_n hx hb dX1_isDoubtful_2 rfl (lv_at hl 0 rfl) ?_
  refine gx_X1_33_1000 E hX hD hP dX1_isDoubtful_3 ?_
  refine gx_X1_246_2000 E hX hD hP dX1_isDoubtful_6 ?_
  obtain ⟨v1, u2, hf⟩ := bdP hf
  refine cx_X1_190_J2_size_Ld E hX hD hP hS hA (kxJ2_size_Ld l D G hD rfl u2) ⟨rfl, rfl⟩ ⟨Nat.le_of_ble_eq_true rfl, Nat.le_of_ble_eq_true rfl⟩ ⟨Nat.zero_le _, Nat.zero_le _⟩ hl.1 (Nat.le_of_ble_eq_true rfl) dX1_isDoubtful_9 (fun H locs hP hS => ?_)
  refine lv_iconst hx hb dX1_isDoubtful_12 ic_1 ?_
  refine lv_isub hx hb dX1_isDoubtful_13 ?_
  obtain ⟨v3, u4, hf⟩ := bdP hf
  refine cx_X1_143_X1_in E hX hD hP hS hA (kxX1_in l D G hD u4) ⟨rfl, rfl⟩ ⟨Nat.le_of_ble_eq_true rfl, Nat.le_of_ble_eq_true rfl⟩ ⟨Nat.zero_le _, Nat.zero_le _⟩ hl.1 (Nat.le_of_ble_eq_true rfl) dX1_isDoubtful_14 (fun H locs hP hS => ?_)
  obtain ⟨v5, hv5, hf⟩ := bdP hf
  obtain ⟨hv5a, hv5b⟩ := retZ_some hv5
  subst hv5a
  cases hf
  rw [hQ]; exact g_nret hx hb hr hlk hP hS hv5b dX1_isDoubtful_17
theorem kxX1_isDoubtful (l : Launch) (D : va_G) (G : Nat → ClassId) {dsc : Nat → Option Dsc} {ad : Nat → Nat} {σ : Sto} {nr nw nu : Nat} (hD : XD dsc nr nw nu) {x1 : Int32} {r_ : Int32} {z_Ld_size : Int32} (e_zI2027 : σ.1 2027 = z_Ld_size) (hf : xo_X1_isDoubtful z_Ld_size x1 = some r_) : CtG l D G dsc ad yX1_isDoubtful (ws_ yX1_isDoubtful cX1_isDoubtful 2 (Option.some Jvm.ClassFile.FieldType.boolean)) rmX1_isDoubtful [.ref (ad 1000), .int x1] σ (some (.int r_)) σ := by
  subst e_zI2027
  exact p_ctG (by decide +kernel) (Nat.le_of_ble_eq_true rfl) (fun p e s m below meth c0 ls A E hP hX hA hS hl => wkX1_isDoubtful E hX hD hA hf rfl hP hS hl)
theorem gx_X4_15_1055 (E : EN p s m args meth c0 RX4 cc nL ret) (hX : KX D G ad A s s.heap) (hD : XD dsc nr nw nu) (hP : PIC D clsA G dsc ad σ H) (hdg : decode cc pc = .ok (.getfield 15, 3)) (kk : W p l e R s m args below meth c0 H locs cells slots Q (F0 m (pc + 3) ls (.ref (ad 1143) :: rest))) : W p l e R s m args below meth c0 H locs cells slots Q (F0 m pc ls (.ref (ad 1055) :: rest)) :=
  p_get E.1.1 E.1.2.1 E.1.2.2.2.2 in_X4 E.1.2.2.2.1 hX.1 hP (hD.1 _ _ dX_1055) rfl 1 (by decide) (E.1.2.2.2.2 _ q327) (fun _ h => h) rfl rfl hdg kk
theorem gx_X4_9_1055 (E : EN p s m args meth c0 RX4 cc nL ret) (hX : KX D G ad A s s.heap) (hD : XD dsc nr nw nu) (hP : PIC D clsA G dsc ad σ H) (hdg : decode cc pc = .ok (.getfield 9, 3)) (kk : W p l e R s m args below meth c0 H locs cells slots Q (F0 m (pc + 3) ls (.ref (ad 1142) :: rest))) : W p l e R s m args below meth c0 H locs cells slots Q (F0 m pc ls (.ref (ad 1055) :: rest)) :=
  p_get E.1.1 E.1.2.1 E.1.2.2.2.2 in_X4 E.1.2.2.2.1 hX.1 hP (hD.1 _ _ dX_1055) rfl 0 (by decide) (E.1.2.2.2.2 _ q323) (fun _ h => h) rfl rfl hdg kk
/-! X4_join_O (LShutPasses$Land;)V -/
def sgX4_join_O (σ : Sto) (w0 : Nat → Int64) : Sto := aL σ 1143 w0
theorem sgX4_join_O_self (σ : Sto) : sgX4_join_O σ (σ.2.2.2.1 1143) = σ := by
  unfold sgX4_join_O
  simp only [zI_self, zL_self, aI_self, aL_self]
theorem sgX4_join_O_aL1143 {σ : Sto} {w0 : Nat → Int64} {g : Nat → Int64} : aL (sgX4_join_O σ w0) 1143 g = sgX4_join_O σ g := aL_aL _ 1143 _ _
theorem sgX4_join_O_rzI2027 {σ : Sto} {w0 : Nat → Int64} : (sgX4_join_O σ w0).1 2027 = σ.1 2027 := rfl
theorem sgX4_join_O_raI1170 {σ : Sto} {w0 : Nat → Int64} : (sgX4_join_O σ w0).2.2.1 1170 = σ.2.2.1 1170 := rfl
theorem sgX4_join_O_raL1142 {σ : Sto} {w0 : Nat → Int64} : (sgX4_join_O σ w0).2.2.2.1 1142 = σ.2.2.2.1 1142 := rfl
theorem sgX4_join_O_raL1143 {σ : Sto} {w0 : Nat → Int64} : (sgX4_join_O σ w0).2.2.2.1 1143 = w0 := rfl
abbrev rmX4_join_O : Room := { frames := 2, cells := 0, slots := 0, locals := 44 }
set_option maxHeartbeats 4000000 in
theorem wkX4_join_O {w_aL1143 : Nat → Int64} (E : EN p s m args meth c0 RX4 cX4_join 4 (Option.none : Option Jvm.ClassFile.FieldType)) (hX : KX D G ad A s s.heap) (hD : XD dsc nr nw nu) (hA : ∀ q, PA dsc ad s.heap.size q → A q) (hf : xo_X4_join_W (σ.1 2027) (σ.2.2.1 1170) (σ.2.2.2.1 1142) (σ.2.2.2.1 1143) = some w_aL1143) (hQ : Q = MQ below (va_G1 none (fun t => PIC D clsA G dsc ad (sgX4_join_O σ w_aL1143) t.heap) A) args s 0 0 A) (hP : PIC D clsA G dsc ad σ H) (hS : va_S A s.heap H locs) (hl : lv_has ls 4 [(0, .ref (ad 1055)), (1, .ref (ad 2000))]) : W p l e rmX4_join_O s m args below meth c0 H locs 0 0 Q (F0 m 0 ls []) := by
  obtain ⟨⟨hx, hb, hml, hown, hts⟩, hr, hlk⟩ := id E
  have hP := hP.to (sgX4_join_O_self σ).symm
  unfold xo_X4_join_W at hf
  refine lv_iconst hx hb dX4_join_0 ic_0 ?_
  refine lv_istore_n (lv' := [(2, .int 0), (0, .ref (ad 1055)), (1, .ref (ad 2000))]) hx hb dX4_join_1 rfl hl (by decide) rfl (fun ls hl => ?_)
  have LP2 : ∀ (st2 : Int32 × (Nat → Int64)) (ex2 : ((Nat → Int64))), loop (xo_X4_join_W_L2 (σ.1 2027) (σ.2.2.1 1170) (σ.2.2.2.1 1142)) st2 = some ex2 → ∀ (H : Heap) (locs : List Loc), PIC D clsA G dsc ad (sgX4_join_O σ (st2.2)) H → va_S A s.heap H locs → ∀ (ls : Array Slot), lv_has ls 4 [(0, .ref (ad 1055)), (1, .ref (ad 2000)), (2, .int (st2.1))] → (∀ (a24 : Nat → Int64), ex2 = a24 → ∀ (H : Heap) (locs : List Loc), PIC D clsA G dsc ad (sgX4_join_O σ a24) H → va_S A s.heap H locs → ∀ (ls : Array Slot), lv_has ls 4 [] → W p l e rmX4_join_O s m args below meth c0 H locs 0 0 Q (F0 m 67 ls [])) → W p l e rmX4_join_O s m args below meth c0 H locs 0 0 Q (F0 m 2 ls []) := by
    refine loop_P (fun st2 ex2 o2 hf ih2 hx2 => ?_)
    obtain ⟨y1, a2⟩ := st2
    intro H locs (hP : PIC D clsA G dsc ad (sgX4_join_O σ a2) H) hS ls (hl : lv_has ls 4 [(0, .ref (ad 1055)), (1, .ref (ad 2000)), (2, .int y1)]) KE2_0
    dsimp only [xo_X4_join_W_L2] at hf
    refine lv_iload_n hx hb dX4_join_2 rfl (lv_at hl 2 rfl) ?_
    refine lv_aload_n hx hb dX4_join_3 rfl (lv_at hl 1 rfl) ?_
    obtain ⟨v3, u4, hf⟩ := bdP hf
    refine cx_X4_65_X3_knowns E hX hD hP hS hA (kxX3_knowns l D G hD sgX4_join_O_rzI2027 sgX4_join_O_raI1170 u4) ⟨rfl, rfl⟩ ⟨Nat.le_of_ble_eq_true rfl, Nat.le_of_ble_eq_true rfl⟩ ⟨Nat.zero_le _, Nat.zero_le _⟩ hl.1 (Nat.le_of_ble_eq_true rfl) dX4_join_4 (fun H locs hP hS => ?_)
    refine lv_icmp_ge (tgt := 67) hx hb dX4_join_7 (by decide) (fun c5 => ?_) (fun c5 => ?_)
    · have hf := ifT c5 hf
      exact KE2_0 _ (hx2 _ (Option.some.inj hf).symm).symm H locs hP hS ls (lv_sub hl [] rfl)
    · have hf := ifF c5 hf
      refine lv_aload_n hx hb dX4_join_10 rfl (lv_at hl 0 rfl) ?_
      refine gx_X4_15_1055 E hX hD hP dX4_join_11 ?_
      refine lv_iload_n hx hb dX4_join_14 rfl (lv_at hl 2 rfl) ?_
      refine lv_lconst hx hb dX4_join_15 lc_0 ?_
      obtain ⟨a6, ha6, hf⟩ := bdP hf
      refine p_last hx hb hX.1 hP hS (hA _ (PA_c (hD.1 _ _ dX_1143))) (hD.1 _ _ dX_1143) sgX4_join_O_raL1143 ha6 sgX4_join_O_aL1143 dX4_join_16 (fun H locs hP hS => ?_)
      refine lv_iconst hx hb dX4_join_17 ic_0 ?_
      refine lv_istore_n (lv' := [(3, .int 0), (0, .ref (ad 1055)), (1, .ref (ad 2000)), (2, .int y1)]) hx hb dX4_join_18 rfl hl (by decide) rfl (fun ls hl => ?_)
      have LP19 : ∀ (st19 : Int32 × (Nat → Int64)) (ex19 : ((Nat → Int64))), loop (xo_X4_join_W_L19 (σ.1 2027) (σ.2.2.1 1170) (σ.2.2.2.1 1142) y1) st19 = some ex19 → ∀ (H : Heap) (locs : List Loc), PIC D clsA G dsc ad (sgX4_join_O σ (st19.2)) H → va_S A s.heap H locs → ∀ (ls : Array Slot), lv_has ls 4 [(0, .ref (ad 1055)), (1, .ref (ad 2000)), (2, .int y1), (3, .int (st19.1))] → (∀ (a22 : Nat → Int64), ex19 = a22 → ∀ (H : Heap) (locs : List Loc), PIC D clsA G dsc ad (sgX4_join_O σ a22) H → va_S A s.heap H locs → ∀ (ls : Array Slot), lv_has ls 4 [(0, .ref (ad 1055)), (1, .ref (ad 2000)), (2, .int y1)] → W p l e rmX4_join_O s m args below meth c0 H locs 0 0 Q (F0 m 61 ls [])) → W p l e rmX4_join_O s m args below meth c0 H locs 0 0 Q (F0 m 19 ls []) := by
        refine loop_P (fun st19 ex19 o19 hf ih19 hx19 => ?_)
        obtain ⟨y7, a8⟩ := st19
        intro H locs (hP : PIC D clsA G dsc ad (sgX4_join_O σ a8) H) hS ls (hl : lv_has ls 4 [(0, .ref (ad 1055)), (1, .ref (ad 2000)), (2, .int y1), (3, .int y7)]) KE19_0
        dsimp only [xo_X4_join_W_L19] at hf
        refine lv_iload_n hx hb dX4_join_19 rfl (lv_at hl 3 rfl) ?_
        refine lv_aload_n hx hb dX4_join_20 rfl (lv_at hl 1 rfl) ?_
        obtain ⟨v9, u10, hf⟩ := bdP hf
        refine cx_X4_32_X3_worlds E hX hD hP hS hA (kxX3_worlds l D G hD sgX4_join_O_rzI2027 u10) ⟨rfl, rfl⟩ ⟨Nat.le_of_ble_eq_true rfl, Nat.le_of_ble_eq_true rfl⟩ ⟨Nat.zero_le _, Nat.zero_le _⟩ hl.1 (Nat.le_of_ble_eq_true rfl) dX4_join_21 (fun H locs hP hS => ?_)
        refine lv_icmp_ge (tgt := 61) hx hb dX4_join_24 (by decide) (fun c11 => ?_) (fun c11 => ?_)
        · have hf := ifT c11 hf
          exact KE19_0 _ (hx19 _ (Option.some.inj hf).symm).symm H locs hP hS ls (lv_sub hl [0, 1, 2] rfl)
        · have hf := ifF c11 hf
          refine lv_aload_n hx hb dX4_join_27 rfl (lv_at hl 0 rfl) ?_
          refine gx_X4_15_1055 E hX hD hP dX4_join_28 ?_
          refine lv_iload_n hx hb dX4_join_31 rfl (lv_at hl 2 rfl) ?_
          refine lv_dup2_11 hx hb dX4_join_32 rfl rfl ?_
          obtain ⟨v12, hv12, hf⟩ := bdP hf
          refine p_lald hx hb hX.1 hP (hD.1 _ _ dX_1143) sgX4_join_O_raL1143 hv12 dX4_join_33 ?_
          refine lv_aload_n hx hb dX4_join_34 rfl (lv_at hl 1 rfl) ?_
          refine lv_iload_n hx hb dX4_join_35 rfl (lv_at hl 3 rfl) ?_
          refine lv_iload_n hx hb dX4_join_36 rfl (lv_at hl 2 rfl) ?_
          obtain ⟨v13, u14, hf⟩ := bdP hf
          refine cx_X4_68_X4_agrees E hX hD hP hS hA (kxX4_agrees l D G hD sgX4_join_O_rzI2027 sgX4_join_O_raI1170 u14) ⟨rfl, rfl⟩ ⟨Nat.le_of_ble_eq_true rfl, Nat.le_of_ble_eq_true rfl⟩ ⟨Nat.zero_le _, Nat.zero_le _⟩ hl.1 (Nat.le_of_ble_eq_true rfl) dX4_join_37 (fun H locs hP hS => ?_)
          have J53 : ∀ (k15 : Int64) (k16 : Int64) (k17 : Int32), xo_X4_join_W_J53 y7 a8 k15 k16 k17 = some o19 → ∀ (H : Heap) (locs : List Loc), PIC D clsA G dsc ad (sgX4_join_O σ a8) H → va_S A s.heap H locs → ∀ (ls : Array Slot), lv_has ls 4 [(0, .ref (ad 1055)), (1, .ref (ad 2000)), (2, .int y1), (3, .int y7)] → W p l e rmX4_join_O s m args below meth c0 H locs 0 0 Q (F0 m 53 ls [.long k15, .long k16, .int k17, .ref (ad 1143)]) := by
            intro k15 k16 k17 hf H locs hP hS ls hl
            unfold xo_X4_join_W_J53 at hf
            refine lv_ladd hx hb dX4_join_53 ?_
            obtain ⟨a18, ha18, hf⟩ := bdP hf
            refine p_last hx hb hX.1 hP hS (hA _ (PA_c (hD.1 _ _ dX_1143))) (hD.1 _ _ dX_1143) sgX4_join_O_raL1143 ha18 sgX4_join_O_aL1143 dX4_join_54 (fun H locs hP hS => ?_)
            obtain ⟨v19, hv19, hf⟩ := bdP hf
            refine lv_iinc (v := v19) (lv' := [(3, .int v19), (0, .ref (ad 1055)), (1, .ref (ad 2000)), (2, .int y1)]) hx hb dX4_join_55 hl (k := 3) rfl (Option.some.inj hv19) (by decide) rfl (fun ls hl => ?_)
            refine lv_goto (tgt := 19) hx hb dX4_join_58 (by decide) ?_
            exact ih19 _ (Option.some.inj hf).symm H locs hP hS ls (lv_sub hl [1, 2, 3, 0] rfl) KE19_0
          refine lv_if_eq (tgt := 52) hx hb dX4_join_40 (by decide) (fun c20 => ?_) (fun c20 => ?_)
          · have hf := ifT c20 hf
            refine lv_lconst hx hb dX4_join_52 lc_0 ?_
            exact J53 0 v12 y1 hf H locs hP hS ls (lv_sub hl [0, 1, 2, 3] rfl)
          · have hf := ifF c20 hf
            refine lv_aload_n hx hb dX4_join_43 rfl (lv_at hl 0 rfl) ?_
            refine gx_X4_9_1055 E hX hD hP dX4_join_44 ?_
            refine lv_iload_n hx hb dX4_join_47 rfl (lv_at hl 3 rfl) ?_
            obtain ⟨v21, hv21, hf⟩ := bdP hf
            refine p_lald hx hb hX.1 hP (hD.1 _ _ dX_1142) sgX4_join_O_raL1142 hv21 dX4_join_48 ?_
            refine lv_goto (tgt := 53) hx hb dX4_join_49 (by decide) ?_
            exact J53 v21 v12 y1 hf H locs hP hS ls (lv_sub hl [0, 1, 2, 3] rfl)
      obtain ⟨ex19, hlp19, hf⟩ := bdP hf
      refine LP19 (0, a6) ex19 hlp19 H locs hP hS ls (lv_sub hl [1, 2, 3, 0] rfl) ?_
      intro a22 hex19 H locs hP hS ls hl
      subst ex19
      obtain ⟨v23, hv23, hf⟩ := bdP hf
      refine lv_iinc (v := v23) (lv' := [(2, .int v23), (0, .ref (ad 1055)), (1, .ref (ad 2000))]) hx hb dX4_join_61 hl (k := 2) rfl (Option.some.inj hv23) (by decide) rfl (fun ls hl => ?_)
      refine lv_goto (tgt := 2) hx hb dX4_join_64 (by decide) ?_
      exact ih2 _ (Option.some.inj hf).symm H locs hP hS ls (lv_sub hl [1, 2, 0] rfl) KE2_0
  obtain ⟨ex2, hlp2, hf⟩ := bdP hf
  refine LP2 (0, (σ.2.2.2.1 1143)) ex2 hlp2 H locs hP hS ls (lv_sub hl [1, 2, 0] rfl) ?_
  intro a24 hex2 H locs hP hS ls hl
  subst ex2
  cases hf
  rw [hQ]; exact g_vret hx hb hr hlk hP hS dX4_join_67
theorem kxX4_join_O (l : Launch) (D : va_G) (G : Nat → ClassId) {dsc : Nat → Option Dsc} {ad : Nat → Nat} {σ : Sto} {nr nw nu : Nat} (hD : XD dsc nr nw nu) {w_aL1143 : Nat → Int64} {z_Ld_size : Int32} (e_zI2027 : σ.1 2027 = z_Ld_size) {a_UNIT : Nat → Int32} (e_aI1170 : σ.2.2.1 1170 = a_UNIT) {a_O_world : Nat → Int64} (e_aL1142 : σ.2.2.2.1 1142 = a_O_world) {a_O_likely : Nat → Int64} (e_aL1143 : σ.2.2.2.1 1143 = a_O_likely) (hf : xo_X4_join_W z_Ld_size a_UNIT a_O_world a_O_likely = some w_aL1143) : CtG l D G dsc ad yX4_join (ws_ yX4_join cX4_join 4 (Option.none : Option Jvm.ClassFile.FieldType)) rmX4_join_O [.ref (ad 1055), .ref (ad 2000)] σ none (aL σ 1143 w_aL1143) := by
  subst e_zI2027
  subst e_aI1170
  subst e_aL1142
  subst e_aL1143
  exact p_ctG (by decide +kernel) (Nat.le_of_ble_eq_true rfl) (fun p e s m below meth c0 ls A E hP hX hA hS hl => wkX4_join_O E hX hD hA hf rfl hP hS hl)
theorem ux_X4_18_1055 {v : Int64} {σ1 : Sto} (E : EN p s m args meth c0 RX4 cc nL ret) (hX : KX D G ad A s s.heap) (hD : XD dsc nr nw nu) (hP : PIC D clsA G dsc ad σ H) (hS : va_S A s.heap H locs) (hA : A (ad 1055)) (hσ : zL σ 1057 v = σ1) (hdg : decode cc pc = .ok (.putfield 18, 3)) (kk : ∀ (H1 : Heap) (locs1 : List Loc), PIC D clsA G dsc ad σ1 H1 → va_S A s.heap H1 locs1 → W p l e R s m args below meth c0 H1 locs1 cells slots Q (F0 m (pc + 3) ls rest)) : W p l e R s m args below meth c0 H locs cells slots Q (F0 m pc ls (.long v :: .ref (ad 1055) :: rest)) :=
  p_putl2 E.1.1 E.1.2.1 E.1.2.2.2.2 in_X4 tyX4 tyX4_ok E.1.2.2.2.1 hX.1 hP hS hA (hD.1 _ _ dX_1055) rfl 2 (by decide) (by decide +kernel) (E.1.2.2.2.2 _ q331) (fun _ h => h) rfl rfl rfl hσ hdg kk
theorem gx_X4_18_1055 {v : Int64} (E : EN p s m args meth c0 RX4 cc nL ret) (hX : KX D G ad A s s.heap) (hD : XD dsc nr nw nu) (hP : PIC D clsA G dsc ad σ H) (hv : σ.2.1 1057 = v) (hdg : decode cc pc = .ok (.getfield 18, 3)) (kk : W p l e R s m args below meth c0 H locs cells slots Q (F0 m (pc + 3) ls (.long v :: rest))) : W p l e R s m args below meth c0 H locs cells slots Q (F0 m pc ls (.ref (ad 1055) :: rest)) :=
  p_get E.1.1 E.1.2.1 E.1.2.2.2.2 in_X4 E.1.2.2.2.1 hX.1 hP (hD.1 _ _ dX_1055) rfl 2 (by decide) (E.1.2.2.2.2 _ q331) (fun _ h => h) rfl (congrArg Value.long hv) hdg kk
theorem cx_X4_40_X4_join_O {rm : Room} {σ1 : Sto} (E : EN p s m args meth c0 RX4 cc nL ret) (hX : KX D G ad A s s.heap) (hD : XD dsc nr nw nu) (hP : PIC D clsA G dsc ad σ H) (hS : va_S A s.heap H locs) (hA : ∀ q, PA dsc ad s.heap.size q → A q) (hM : CtG l D G dsc ad yX4_join (ws_ yX4_join cX4_join 4 (Option.none : Option Jvm.ClassFile.FieldType)) rm [.ref (ad 1055), .ref (ad 2000)] σ none σ1) (hz : rm.cells = 0 ∧ rm.slots = 0) (hR : rm.frames + 1 ≤ R.frames ∧ 8 + (4 + 11) + rm.locals ≤ R.locals) (hcs : cells ≤ R.cells ∧ slots ≤ R.slots) (hsz : ls.size = nL) (hW : (rest.map fun v => v.category).sum ≤ 8) (hdg : decode cc pc = .ok (.invokevirtual 40, 3)) (kk : ∀ (H1 : Heap) (locs1 : List Loc), PIC D clsA G dsc ad σ1 H1 → va_S A s.heap H1 locs1 → W p l e R s m args below meth c0 H1 locs1 cells slots Q (F0 m (pc + 3) ls (rest))) : W p l e R s m args below meth c0 H locs cells slots Q (F0 m pc ls (.ref (ad 2000) :: .ref (ad 1055) :: rest)) :=
  p_gV (As := [.ref (ad 2000)]) (rest := rest) E.1 hX hP hS hA hM (cwV 1 E.1.2.2.2.2 (lw_V q1023 q1025 qs22 q130 q1026) rfl hz.1 hz.2 (by decide +kernel) hR) (hD.1 _ _ dX_1055) rfl rfl rfl hsz rfl hW hdg hcs kk
/-! X4_lay_O (LShutPasses$Land;II)V -/
def sgX4_lay_O (σ : Sto) (w0 : Int64) (w1 : Nat → Int64) (w2 : Nat → Int64) : Sto := aL (aL (zL σ 1057 w0) 1142 w1) 1143 w2
theorem sgX4_lay_O_self (σ : Sto) : sgX4_lay_O σ (σ.2.1 1057) (σ.2.2.2.1 1142) (σ.2.2.2.1 1143) = σ := by
  unfold sgX4_lay_O
  simp only [zI_self, zL_self, aI_self, aL_self]
theorem sgX4_lay_O_zL1057 {σ : Sto} {w0 : Int64} {w1 : Nat → Int64} {w2 : Nat → Int64} {g : Int64} : zL (sgX4_lay_O σ w0 w1 w2) 1057 g = sgX4_lay_O σ g w1 w2 := (cm_zL_aL _ _ _ _ _).trans (congrArg (fun z => aL z 1143 w2) ((cm_zL_aL _ _ _ _ _).trans (congrArg (fun z => aL z 1142 w1) (zL_zL _ 1057 _ _))))
theorem sgX4_lay_O_aL1142 {σ : Sto} {w0 : Int64} {w1 : Nat → Int64} {w2 : Nat → Int64} {g : Nat → Int64} : aL (sgX4_lay_O σ w0 w1 w2) 1142 g = sgX4_lay_O σ w0 g w2 := (aL_comm _ (by decide) _ _).trans (congrArg (fun z => aL z 1143 w2) (aL_aL _ 1142 _ _))
theorem sgX4_lay_O_aL1143 {σ : Sto} {w0 : Int64} {w1 : Nat → Int64} {w2 : Nat → Int64} {g : Nat → Int64} : aL (sgX4_lay_O σ w0 w1 w2) 1143 g = sgX4_lay_O σ w0 w1 g := aL_aL _ 1143 _ _
theorem sgX4_lay_O_rzI2009 {σ : Sto} {w0 : Int64} {w1 : Nat → Int64} {w2 : Nat → Int64} : (sgX4_lay_O σ w0 w1 w2).1 2009 = σ.1 2009 := rfl
theorem sgX4_lay_O_rzI2027 {σ : Sto} {w0 : Int64} {w1 : Nat → Int64} {w2 : Nat → Int64} : (sgX4_lay_O σ w0 w1 w2).1 2027 = σ.1 2027 := rfl
theorem sgX4_lay_O_rzL1057 {σ : Sto} {w0 : Int64} {w1 : Nat → Int64} {w2 : Nat → Int64} : (sgX4_lay_O σ w0 w1 w2).2.1 1057 = w0 := rfl
theorem sgX4_lay_O_raI1170 {σ : Sto} {w0 : Int64} {w1 : Nat → Int64} {w2 : Nat → Int64} : (sgX4_lay_O σ w0 w1 w2).2.2.1 1170 = σ.2.2.1 1170 := rfl
theorem sgX4_lay_O_raI2036 {σ : Sto} {w0 : Int64} {w1 : Nat → Int64} {w2 : Nat → Int64} : (sgX4_lay_O σ w0 w1 w2).2.2.1 2036 = σ.2.2.1 2036 := rfl
theorem sgX4_lay_O_raI2042 {σ : Sto} {w0 : Int64} {w1 : Nat → Int64} {w2 : Nat → Int64} : (sgX4_lay_O σ w0 w1 w2).2.2.1 2042 = σ.2.2.1 2042 := rfl
theorem sgX4_lay_O_raL1142 {σ : Sto} {w0 : Int64} {w1 : Nat → Int64} {w2 : Nat → Int64} : (sgX4_lay_O σ w0 w1 w2).2.2.2.1 1142 = w1 := rfl
theorem sgX4_lay_O_raL1143 {σ : Sto} {w0 : Int64} {w1 : Nat → Int64} {w2 : Nat → Int64} : (sgX4_lay_O σ w0 w1 w2).2.2.2.1 1143 = w2 := rfl
theorem sgX4_lay_O_rpR3 {σ : Sto} {w0 : Int64} {w1 : Nat → Int64} {w2 : Nat → Int64} : (fun k => (sgX4_lay_O σ w0 w1 w2).1 (6000 + 16 * k + 3)) = (fun k => σ.1 (6000 + 16 * k + 3)) := by
  funext k
  unfold sgX4_lay_O
  dsimp only [zI, zL, aI, aL]
  repeat rw [if_neg (by omega)]
theorem sgX4_lay_O_rpR4 {σ : Sto} {w0 : Int64} {w1 : Nat → Int64} {w2 : Nat → Int64} : (fun k => (sgX4_lay_O σ w0 w1 w2).1 (6000 + 16 * k + 4)) = (fun k => σ.1 (6000 + 16 * k + 4)) := by
  funext k
  unfold sgX4_lay_O
  dsimp only [zI, zL, aI, aL]
  repeat rw [if_neg (by omega)]
abbrev rmX4_lay_O : Room := { frames := 4, cells := 0, slots := 0, locals := 96 }
set_option maxHeartbeats 4000000 in
theorem wkX4_lay_O {x2 : Int32} {x3 : Int32} {w_zL1057 : Int64} {w_aL1142 : Nat → Int64} {w_aL1143 : Nat → Int64} (E : EN p s m args meth c0 RX4 cX4_lay 8 (Option.none : Option Jvm.ClassFile.FieldType)) (hX : KX D G ad A s s.heap) (hD : XD dsc nr nw nu) (hA : ∀ q, PA dsc ad s.heap.size q → A q) (hf : xo_X4_lay_W (σ.1 2009) (σ.1 2027) (σ.2.1 1057) (σ.2.2.1 1170) (σ.2.2.1 2036) (σ.2.2.1 2042) (σ.2.2.2.1 1142) (σ.2.2.2.1 1143) nr (fun k => σ.1 (6000 + 16 * k + 3)) (fun k => σ.1 (6000 + 16 * k + 4)) x2 x3 = some (w_zL1057, w_aL1142, w_aL1143)) (hQ : Q = MQ below (va_G1 none (fun t => PIC D clsA G dsc ad (sgX4_lay_O σ w_zL1057 w_aL1142 w_aL1143) t.heap) A) args s 0 0 A) (hP : PIC D clsA G dsc ad σ H) (hS : va_S A s.heap H locs) (hl : lv_has ls 8 [(0, .ref (ad 1055)), (1, .ref (ad 2000)), (2, .int x2), (3, .int x3)]) : W p l e rmX4_lay_O s m args below meth c0 H locs 0 0 Q (F0 m 0 ls []) := by
  obtain ⟨⟨hx, hb, hml, hown, hts⟩, hr, hlk⟩ := id E
  have hP := hP.to (sgX4_lay_O_self σ).symm
  unfold xo_X4_lay_W at hf
  refine lv_aload_n hx hb dX4_lay_0 rfl (lv_at hl 0 rfl) ?_
  refine lv_lconst hx hb dX4_lay_1 lc_0 ?_
  refine ux_X4_18_1055 E hX hD hP hS (hA _ (PA_c (hD.1 _ _ dX_1055))) sgX4_lay_O_zL1057 dX4_lay_2 (fun H locs hP hS => ?_)
  refine lv_iconst hx hb dX4_lay_5 ic_0 ?_
  refine lv_istore (lv' := [(4, .int 0), (0, .ref (ad 1055)), (1, .ref (ad 2000)), (2, .int x2), (3, .int x3)]) hx hb dX4_lay_6 hl (by decide) rfl (fun ls hl => ?_)
  have LP8 : ∀ (st8 : Int32 × (Nat → Int64)) (ex8 : ((Nat → Int64))), loop (xo_X4_lay_W_L8) st8 = some ex8 → ∀ (H : Heap) (locs : List Loc), PIC D clsA G dsc ad (sgX4_lay_O σ 0 (st8.2) (σ.2.2.2.1 1143)) H → va_S A s.heap H locs → ∀ (ls : Array Slot), lv_has ls 8 [(0, .ref (ad 1055)), (1, .ref (ad 2000)), (2, .int x2), (3, .int x3), (4, .int (st8.1))] → (∀ (a6 : Nat → Int64), ex8 = a6 → ∀ (H : Heap) (locs : List Loc), PIC D clsA G dsc ad (sgX4_lay_O σ 0 a6 (σ.2.2.2.1 1143)) H → va_S A s.heap H locs → ∀ (ls : Array Slot), lv_has ls 8 [(0, .ref (ad 1055)), (1, .ref (ad 2000)), (2, .int x2), (3, .int x3)] → W p l e rmX4_lay_O s m args below meth c0 H locs 0 0 Q (F0 m 29 ls [])) → W p l e rmX4_lay_O s m args below meth c0 H locs 0 0 Q (F0 m 8 ls []) := by
    refine loop_P (fun st8 ex8 o8 hf ih8 hx8 => ?_)
    obtain ⟨y1, a2⟩ := st8
    intro H locs (hP : PIC D clsA G dsc ad (sgX4_lay_O σ 0 a2 (σ.2.2.2.1 1143)) H) hS ls (hl : lv_has ls 8 [(0, .ref (ad 1055)), (1, .ref (ad 2000)), (2, .int x2), (3, .int x3), (4, .int y1)]) KE8_0
    dsimp only [xo_X4_lay_W_L8] at hf
    refine lv_iload hx hb dX4_lay_8 (lv_at hl 4 rfl) ?_
    refine lv_bipush hx hb dX4_lay_10 bp_64 ?_
    refine lv_icmp_ge (tgt := 29) hx hb dX4_lay_12 (by decide) (fun c3 => ?_) (fun c3 => ?_)
    · have hf := ifT c3 hf
      exact KE8_0 _ (hx8 _ (Option.some.inj hf).symm).symm H locs hP hS ls (lv_sub hl [0, 1, 2, 3] rfl)
    · have hf := ifF c3 hf
      refine lv_aload_n hx hb dX4_lay_15 rfl (lv_at hl 0 rfl) ?_
      refine gx_X4_9_1055 E hX hD hP dX4_lay_16 ?_
      refine lv_iload hx hb dX4_lay_19 (lv_at hl 4 rfl) ?_
      refine lv_lconst hx hb dX4_lay_21 lc_0 ?_
      obtain ⟨a4, ha4, hf⟩ := bdP hf
      refine p_last hx hb hX.1 hP hS (hA _ (PA_c (hD.1 _ _ dX_1142))) (hD.1 _ _ dX_1142) sgX4_lay_O_raL1142 ha4 sgX4_lay_O_aL1142 dX4_lay_22 (fun H locs hP hS => ?_)
      obtain ⟨v5, hv5, hf⟩ := bdP hf
      refine lv_iinc (v := v5) (lv' := [(4, .int v5), (0, .ref (ad 1055)), (1, .ref (ad 2000)), (2, .int x2), (3, .int x3)]) hx hb dX4_lay_23 hl (k := 4) rfl (Option.some.inj hv5) (by decide) rfl (fun ls hl => ?_)
      refine lv_goto (tgt := 8) hx hb dX4_lay_26 (by decide) ?_
      exact ih8 _ (Option.some.inj hf).symm H locs hP hS ls (lv_sub hl [1, 2, 3, 4, 0] rfl) KE8_0
  obtain ⟨ex8, hlp8, hf⟩ := bdP hf
  refine LP8 (0, (σ.2.2.2.1 1142)) ex8 hlp8 H locs hP hS ls (lv_sub hl [1, 2, 3, 4, 0] rfl) ?_
  intro a6 hex8 H locs hP hS ls hl
  subst ex8
  refine lv_iconst hx hb dX4_lay_29 ic_0 ?_
  refine lv_istore (lv' := [(4, .int 0), (0, .ref (ad 1055)), (1, .ref (ad 2000)), (2, .int x2), (3, .int x3)]) hx hb dX4_lay_30 hl (by decide) rfl (fun ls hl => ?_)
  have LP32 : ∀ (st32 : Int32 × (Nat → Int64)) (ex32 : ((Nat → Int64))), loop (xo_X4_lay_W_L32 (σ.1 2009) (σ.1 2027) (σ.2.2.1 2036) (σ.2.2.1 2042) nr (fun k => σ.1 (6000 + 16 * k + 3)) (fun k => σ.1 (6000 + 16 * k + 4)) x2 x3) st32 = some ex32 → ∀ (H : Heap) (locs : List Loc), PIC D clsA G dsc ad (sgX4_lay_O σ 0 (st32.2) (σ.2.2.2.1 1143)) H → va_S A s.heap H locs → ∀ (ls : Array Slot), lv_has ls 8 [(0, .ref (ad 1055)), (1, .ref (ad 2000)), (2, .int x2), (3, .int x3), (4, .int (st32.1))] → (∀ (a33 : Nat → Int64), ex32 = a33 → ∀ (H : Heap) (locs : List Loc), PIC D clsA G dsc ad (sgX4_lay_O σ 0 a33 (σ.2.2.2.1 1143)) H → va_S A s.heap H locs → ∀ (ls : Array Slot), lv_has ls 8 [(0, .ref (ad 1055)), (1, .ref (ad 2000))] → W p l e rmX4_lay_O s m args below meth c0 H locs 0 0 Q (F0 m 149 ls [])) → W p l e rmX4_lay_O s m args below meth c0 H locs 0 0 Q (F0 m 32 ls []) := by
    refine loop_P (fun st32 ex32 o32 hf ih32 hx32 => ?_)
    obtain ⟨y7, a8⟩ := st32
    intro H locs (hP : PIC D clsA G dsc ad (sgX4_lay_O σ 0 a8 (σ.2.2.2.1 1143)) H) hS ls (hl : lv_has ls 8 [(0, .ref (ad 1055)), (1, .ref (ad 2000)), (2, .int x2), (3, .int x3), (4, .int y7)]) KE32_0
    dsimp only [xo_X4_lay_W_L32] at hf
    refine lv_iload hx hb dX4_lay_32 (lv_at hl 4 rfl) ?_
    refine lv_iconst hx hb dX4_lay_34 ic_1 ?_
    refine lv_aload_n hx hb dX4_lay_35 rfl (lv_at hl 1 rfl) ?_
    refine gx_X4_22_2000 (v := (σ.1 2009)) E hX hD hP sgX4_lay_O_rzI2009 dX4_lay_36 ?_
    refine lv_ishl hx hb dX4_lay_39 ?_
    refine lv_icmp_ge (tgt := 149) hx hb dX4_lay_40 (by decide) (fun c9 => ?_) (fun c9 => ?_)
    · have hf := ifT c9 hf
      exact KE32_0 _ (hx32 _ (Option.some.inj hf).symm).symm H locs hP hS ls (lv_sub hl [0, 1] rfl)
    · have hf := ifF c9 hf
      refine lv_lconst hx hb dX4_lay_43 lc_1 ?_
      refine lv_lstore (lv' := [(5, .long 1), (0, .ref (ad 1055)), (1, .ref (ad 2000)), (2, .int x2), (3, .int x3), (4, .int y7)]) hx hb dX4_lay_44 hl (by decide) rfl (fun ls hl => ?_)
      refine lv_iconst hx hb dX4_lay_46 ic_0 ?_
      refine lv_istore (lv' := [(7, .int 0), (5, .long 1), (0, .ref (ad 1055)), (1, .ref (ad 2000)), (2, .int x2), (3, .int x3), (4, .int y7)]) hx hb dX4_lay_47 hl (by decide) rfl (fun ls hl => ?_)
      have LP49 : ∀ (st49 : Int64 × Int32) (ex49 : (Int64)), loop (xo_X4_lay_W_L49 (σ.1 2009) (σ.2.2.1 2042) y7) st49 = some ex49 → ∀ (H : Heap) (locs : List Loc), PIC D clsA G dsc ad (sgX4_lay_O σ 0 a8 (σ.2.2.2.1 1143)) H → va_S A s.heap H locs → ∀ (ls : Array Slot), lv_has ls 8 [(0, .ref (ad 1055)), (1, .ref (ad 2000)), (2, .int x2), (3, .int x3), (4, .int y7), (5, .long (st49.1)), (7, .int (st49.2))] → (∀ (y20 : Int64), ex49 = y20 → ∀ (H : Heap) (locs : List Loc), PIC D clsA G dsc ad (sgX4_lay_O σ 0 a8 (σ.2.2.2.1 1143)) H → va_S A s.heap H locs → ∀ (ls : Array Slot), lv_has ls 8 [(0, .ref (ad 1055)), (1, .ref (ad 2000)), (2, .int x2), (3, .int x3), (4, .int y7), (5, .long y20)] → W p l e rmX4_lay_O s m args below meth c0 H locs 0 0 Q (F0 m 102 ls [])) → W p l e rmX4_lay_O s m args below meth c0 H locs 0 0 Q (F0 m 49 ls []) := by
        refine loop_P (fun st49 ex49 o49 hf ih49 hx49 => ?_)
        obtain ⟨y10, y11⟩ := st49
        intro H locs (hP : PIC D clsA G dsc ad (sgX4_lay_O σ 0 a8 (σ.2.2.2.1 1143)) H) hS ls (hl : lv_has ls 8 [(0, .ref (ad 1055)), (1, .ref (ad 2000)), (2, .int x2), (3, .int x3), (4, .int y7), (5, .long y10), (7, .int y11)]) KE49_0
        dsimp only [xo_X4_lay_W_L49] at hf
        refine lv_iload hx hb dX4_lay_49 (lv_at hl 6 rfl) ?_
        refine lv_aload_n hx hb dX4_lay_51 rfl (lv_at hl 1 rfl) ?_
        refine gx_X4_22_2000 (v := (σ.1 2009)) E hX hD hP sgX4_lay_O_rzI2009 dX4_lay_52 ?_
        refine lv_icmp_ge (tgt := 102) hx hb dX4_lay_55 (by decide) (fun c12 => ?_) (fun c12 => ?_)
        · have hf := ifT c12 hf
          exact KE49_0 _ (hx49 _ (Option.some.inj hf).symm).symm H locs hP hS ls (lv_sub hl [0, 1, 2, 3, 4, 5] rfl)
        · have hf := ifF c12 hf
          refine lv_lload hx hb dX4_lay_58 (lv_at hl 5 rfl) ?_
          refine lv_iload hx hb dX4_lay_60 (lv_at hl 4 rfl) ?_
          refine lv_iload hx hb dX4_lay_62 (lv_at hl 6 rfl) ?_
          refine lv_ishr hx hb dX4_lay_64 ?_
          refine lv_iconst hx hb dX4_lay_65 ic_1 ?_
          refine lv_iand hx hb dX4_lay_66 ?_
          refine lv_iconst hx hb dX4_lay_67 ic_1 ?_
          have J93 : ∀ (k13 : Int64) (k14 : Int64), xo_X4_lay_W_J93 y11 k13 k14 = some o49 → ∀ (H : Heap) (locs : List Loc), PIC D clsA G dsc ad (sgX4_lay_O σ 0 a8 (σ.2.2.2.1 1143)) H → va_S A s.heap H locs → ∀ (ls : Array Slot), lv_has ls 8 [(0, .ref (ad 1055)), (1, .ref (ad 2000)), (2, .int x2), (3, .int x3), (4, .int y7), (7, .int y11)] → W p l e rmX4_lay_O s m args below meth c0 H locs 0 0 Q (F0 m 93 ls [.long k13, .long k14]) := by
            intro k13 k14 hf H locs hP hS ls hl
            unfold xo_X4_lay_W_J93 at hf
            refine lv_lmul hx hb dX4_lay_93 ?_
            obtain ⟨v15, hv15, hf⟩ := bdP hf
            refine nm_l (Option.some.inj hv15) ?_
            refine lv_lstore (lv' := [(5, .long v15), (0, .ref (ad 1055)), (1, .ref (ad 2000)), (2, .int x2), (3, .int x3), (4, .int y7), (7, .int y11)]) hx hb dX4_lay_94 hl (by decide) rfl (fun ls hl => ?_)
            obtain ⟨v16, hv16, hf⟩ := bdP hf
            refine lv_iinc (v := v16) (lv' := [(7, .int v16), (5, .long v15), (0, .ref (ad 1055)), (1, .ref (ad 2000)), (2, .int x2), (3, .int x3), (4, .int y7)]) hx hb dX4_lay_96 hl (k := 6) rfl (Option.some.inj hv16) (by decide) rfl (fun ls hl => ?_)
            refine lv_goto (tgt := 49) hx hb dX4_lay_99 (by decide) ?_
            exact ih49 _ (Option.some.inj hf).symm H locs hP hS ls (lv_sub hl [2, 3, 4, 5, 6, 1, 0] rfl) KE49_0
          refine lv_icmp_ne (tgt := 82) hx hb dX4_lay_68 (by decide) (fun c17 => ?_) (fun c17 => ?_)
          · have hf := ifF c17 hf
            refine lv_bipush hx hb dX4_lay_82 bp_10 ?_
            refine lv_aload_n hx hb dX4_lay_84 rfl (lv_at hl 1 rfl) ?_
            refine gx_X4_28_2000 E hX hD hP dX4_lay_85 ?_
            refine lv_iload hx hb dX4_lay_88 (lv_at hl 6 rfl) ?_
            obtain ⟨v18, hv18, hf⟩ := bdP hf
            refine p_iald hx hb hX.1 hP (hD.1 _ _ dX_2042) sgX4_lay_O_raI2042 hv18 dX4_lay_90 ?_
            refine lv_isub hx hb dX4_lay_91 ?_
            refine lv_i2l hx hb dX4_lay_92 rfl ?_
            exact J93 ((10 - v18).toInt64) y10 hf H locs hP hS ls (lv_sub hl [0, 1, 2, 3, 4, 6] rfl)
          · have hf := ifT c17 hf
            refine lv_aload_n hx hb dX4_lay_71 rfl (lv_at hl 1 rfl) ?_
            refine gx_X4_28_2000 E hX hD hP dX4_lay_72 ?_
            refine lv_iload hx hb dX4_lay_75 (lv_at hl 6 rfl) ?_
            obtain ⟨v19, hv19, hf⟩ := bdP hf
            refine p_iald hx hb hX.1 hP (hD.1 _ _ dX_2042) sgX4_lay_O_raI2042 hv19 dX4_lay_77 ?_
            refine lv_i2l hx hb dX4_lay_78 rfl ?_
            refine lv_goto (tgt := 93) hx hb dX4_lay_79 (by decide) ?_
            exact J93 (v19.toInt64) y10 hf H locs hP hS ls (lv_sub hl [0, 1, 2, 3, 4, 6] rfl)
      obtain ⟨ex49, hlp49, hf⟩ := bdP hf
      refine LP49 (1, 0) ex49 hlp49 H locs hP hS ls (lv_sub hl [2, 3, 4, 5, 6, 1, 0] rfl) ?_
      intro y20 hex49 H locs hP hS ls hl
      subst ex49
      refine lv_iconst hx hb dX4_lay_102 ic_0 ?_
      refine lv_istore (lv' := [(7, .int 0), (0, .ref (ad 1055)), (1, .ref (ad 2000)), (2, .int x2), (3, .int x3), (4, .int y7), (5, .long y20)]) hx hb dX4_lay_103 hl (by decide) rfl (fun ls hl => ?_)
      have LP105 : ∀ (st105 : Int32 × (Nat → Int64)) (ex105 : ((Nat → Int64))), loop (xo_X4_lay_W_L105 (σ.1 2027) (σ.2.2.1 2036) nr (fun k => σ.1 (6000 + 16 * k + 3)) (fun k => σ.1 (6000 + 16 * k + 4)) x2 x3 y7 y20) st105 = some ex105 → ∀ (H : Heap) (locs : List Loc), PIC D clsA G dsc ad (sgX4_lay_O σ 0 (st105.2) (σ.2.2.2.1 1143)) H → va_S A s.heap H locs → ∀ (ls : Array Slot), lv_has ls 8 [(0, .ref (ad 1055)), (1, .ref (ad 2000)), (2, .int x2), (3, .int x3), (4, .int y7), (5, .long y20), (7, .int (st105.1))] → (∀ (a31 : Nat → Int64), ex105 = a31 → ∀ (H : Heap) (locs : List Loc), PIC D clsA G dsc ad (sgX4_lay_O σ 0 a31 (σ.2.2.2.1 1143)) H → va_S A s.heap H locs → ∀ (ls : Array Slot), lv_has ls 8 [(0, .ref (ad 1055)), (1, .ref (ad 2000)), (2, .int x2), (3, .int x3), (4, .int y7)] → W p l e rmX4_lay_O s m args below meth c0 H locs 0 0 Q (F0 m 143 ls [])) → W p l e rmX4_lay_O s m args below meth c0 H locs 0 0 Q (F0 m 105 ls []) := by
        refine loop_P (fun st105 ex105 o105 hf ih105 hx105 => ?_)
        obtain ⟨y21, a22⟩ := st105
        intro H locs (hP : PIC D clsA G dsc ad (sgX4_lay_O σ 0 a22 (σ.2.2.2.1 1143)) H) hS ls (hl : lv_has ls 8 [(0, .ref (ad 1055)), (1, .ref (ad 2000)), (2, .int x2), (3, .int x3), (4, .int y7), (5, .long y20), (7, .int y21)]) KE105_0
        dsimp only [xo_X4_lay_W_L105] at hf
        refine lv_iload hx hb dX4_lay_105 (lv_at hl 6 rfl) ?_
        refine lv_aload_n hx hb dX4_lay_107 rfl (lv_at hl 1 rfl) ?_
        obtain ⟨v23, u24, hf⟩ := bdP hf
        refine cx_X4_32_X3_worlds E hX hD hP hS hA (kxX3_worlds l D G hD sgX4_lay_O_rzI2027 u24) ⟨rfl, rfl⟩ ⟨Nat.le_of_ble_eq_true rfl, Nat.le_of_ble_eq_true rfl⟩ ⟨Nat.zero_le _, Nat.zero_le _⟩ hl.1 (Nat.le_of_ble_eq_true rfl) dX4_lay_108 (fun H locs hP hS => ?_)
        refine lv_icmp_ge (tgt := 143) hx hb dX4_lay_111 (by decide) (fun c25 => ?_) (fun c25 => ?_)
        · have hf := ifT c25 hf
          exact KE105_0 _ (hx105 _ (Option.some.inj hf).symm).symm H locs hP hS ls (lv_sub hl [0, 1, 2, 3, 4] rfl)
        · have hf := ifF c25 hf
          refine lv_aload_n hx hb dX4_lay_114 rfl (lv_at hl 0 rfl) ?_
          refine gx_X4_9_1055 E hX hD hP dX4_lay_115 ?_
          refine lv_iload hx hb dX4_lay_118 (lv_at hl 6 rfl) ?_
          refine lv_dup2_11 hx hb dX4_lay_120 rfl rfl ?_
          obtain ⟨v26, hv26, hf⟩ := bdP hf
          refine p_lald hx hb hX.1 hP (hD.1 _ _ dX_1142) sgX4_lay_O_raL1142 hv26 dX4_lay_121 ?_
          refine lv_lload hx hb dX4_lay_122 (lv_at hl 5 rfl) ?_
          refine lv_aload_n hx hb dX4_lay_124 rfl (lv_at hl 1 rfl) ?_
          refine lv_iload hx hb dX4_lay_125 (lv_at hl 6 rfl) ?_
          refine lv_iload hx hb dX4_lay_127 (lv_at hl 4 rfl) ?_
          refine lv_iload_n hx hb dX4_lay_129 rfl (lv_at hl 2 rfl) ?_
          refine lv_iload_n hx hb dX4_lay_130 rfl (lv_at hl 3 rfl) ?_
          obtain ⟨v27, u28, hf⟩ := bdP hf
          refine cx_X4_36_X4_alone E hX hD hP hS hA (kxX4_alone l D G hD sgX4_lay_O_rzI2027 sgX4_lay_O_raI2036 rfl sgX4_lay_O_rpR3 sgX4_lay_O_rpR4 u28) ⟨rfl, rfl⟩ ⟨Nat.le_of_ble_eq_true rfl, Nat.le_of_ble_eq_true rfl⟩ ⟨Nat.zero_le _, Nat.zero_le _⟩ hl.1 (Nat.le_of_ble_eq_true rfl) dX4_lay_131 (fun H locs hP hS => ?_)
          refine lv_lmul hx hb dX4_lay_134 ?_
          refine lv_ladd hx hb dX4_lay_135 ?_
          obtain ⟨a29, ha29, hf⟩ := bdP hf
          refine p_last hx hb hX.1 hP hS (hA _ (PA_c (hD.1 _ _ dX_1142))) (hD.1 _ _ dX_1142) sgX4_lay_O_raL1142 ha29 sgX4_lay_O_aL1142 dX4_lay_136 (fun H locs hP hS => ?_)
          obtain ⟨v30, hv30, hf⟩ := bdP hf
          refine lv_iinc (v := v30) (lv' := [(7, .int v30), (0, .ref (ad 1055)), (1, .ref (ad 2000)), (2, .int x2), (3, .int x3), (4, .int y7), (5, .long y20)]) hx hb dX4_lay_137 hl (k := 6) rfl (Option.some.inj hv30) (by decide) rfl (fun ls hl => ?_)
          refine lv_goto (tgt := 105) hx hb dX4_lay_140 (by decide) ?_
          exact ih105 _ (Option.some.inj hf).symm H locs hP hS ls (lv_sub hl [1, 2, 3, 4, 5, 6, 0] rfl) KE105_0
      obtain ⟨ex105, hlp105, hf⟩ := bdP hf
      refine LP105 (0, a8) ex105 hlp105 H locs hP hS ls (lv_sub hl [1, 2, 3, 4, 5, 6, 0] rfl) ?_
      intro a31 hex105 H locs hP hS ls hl
      subst ex105
      obtain ⟨v32, hv32, hf⟩ := bdP hf
      refine lv_iinc (v := v32) (lv' := [(4, .int v32), (0, .ref (ad 1055)), (1, .ref (ad 2000)), (2, .int x2), (3, .int x3)]) hx hb dX4_lay_143 hl (k := 4) rfl (Option.some.inj hv32) (by decide) rfl (fun ls hl => ?_)
      refine lv_goto (tgt := 32) hx hb dX4_lay_146 (by decide) ?_
      exact ih32 _ (Option.some.inj hf).symm H locs hP hS ls (lv_sub hl [1, 2, 3, 4, 0] rfl) KE32_0
  obtain ⟨ex32, hlp32, hf⟩ := bdP hf
  refine LP32 (0, a6) ex32 hlp32 H locs hP hS ls (lv_sub hl [1, 2, 3, 4, 0] rfl) ?_
  intro a33 hex32 H locs hP hS ls hl
  subst ex32
  refine lv_iconst hx hb dX4_lay_149 ic_0 ?_
  refine lv_istore (lv' := [(4, .int 0), (0, .ref (ad 1055)), (1, .ref (ad 2000))]) hx hb dX4_lay_150 hl (by decide) rfl (fun ls hl => ?_)
  have LP152 : ∀ (st152 : Int32 × Int64) (ex152 : (Int64)), loop (xo_X4_lay_W_L152 (σ.1 2027) a33) st152 = some ex152 → ∀ (H : Heap) (locs : List Loc), PIC D clsA G dsc ad (sgX4_lay_O σ (st152.2) a33 (σ.2.2.2.1 1143)) H → va_S A s.heap H locs → ∀ (ls : Array Slot), lv_has ls 8 [(0, .ref (ad 1055)), (1, .ref (ad 2000)), (4, .int (st152.1))] → (∀ (z42 : Int64), ex152 = z42 → ∀ (H : Heap) (locs : List Loc), PIC D clsA G dsc ad (sgX4_lay_O σ z42 a33 (σ.2.2.2.1 1143)) H → va_S A s.heap H locs → ∀ (ls : Array Slot), lv_has ls 8 [(0, .ref (ad 1055)), (1, .ref (ad 2000))] → W p l e rmX4_lay_O s m args below meth c0 H locs 0 0 Q (F0 m 183 ls [])) → W p l e rmX4_lay_O s m args below meth c0 H locs 0 0 Q (F0 m 152 ls []) := by
    refine loop_P (fun st152 ex152 o152 hf ih152 hx152 => ?_)
    obtain ⟨y34, z35⟩ := st152
    intro H locs (hP : PIC D clsA G dsc ad (sgX4_lay_O σ z35 a33 (σ.2.2.2.1 1143)) H) hS ls (hl : lv_has ls 8 [(0, .ref (ad 1055)), (1, .ref (ad 2000)), (4, .int y34)]) KE152_0
    dsimp only [xo_X4_lay_W_L152] at hf
    refine lv_iload hx hb dX4_lay_152 (lv_at hl 2 rfl) ?_
    refine lv_aload_n hx hb dX4_lay_154 rfl (lv_at hl 1 rfl) ?_
    obtain ⟨v36, u37, hf⟩ := bdP hf
    refine cx_X4_32_X3_worlds E hX hD hP hS hA (kxX3_worlds l D G hD sgX4_lay_O_rzI2027 u37) ⟨rfl, rfl⟩ ⟨Nat.le_of_ble_eq_true rfl, Nat.le_of_ble_eq_true rfl⟩ ⟨Nat.zero_le _, Nat.zero_le _⟩ hl.1 (Nat.le_of_ble_eq_true rfl) dX4_lay_155 (fun H locs hP hS => ?_)
    refine lv_icmp_ge (tgt := 183) hx hb dX4_lay_158 (by decide) (fun c38 => ?_) (fun c38 => ?_)
    · have hf := ifT c38 hf
      exact KE152_0 _ (hx152 _ (Option.some.inj hf).symm).symm H locs hP hS ls (lv_sub hl [0, 1] rfl)
    · have hf := ifF c38 hf
      refine lv_aload_n hx hb dX4_lay_161 rfl (lv_at hl 0 rfl) ?_
      refine lv_dup hx hb dX4_lay_162 rfl ?_
      refine gx_X4_18_1055 (v := z35) E hX hD hP sgX4_lay_O_rzL1057 dX4_lay_163 ?_
      refine lv_aload_n hx hb dX4_lay_166 rfl (lv_at hl 0 rfl) ?_
      refine gx_X4_9_1055 E hX hD hP dX4_lay_167 ?_
      refine lv_iload hx hb dX4_lay_170 (lv_at hl 2 rfl) ?_
      obtain ⟨v39, hv39, hf⟩ := bdP hf
      refine p_lald hx hb hX.1 hP (hD.1 _ _ dX_1142) sgX4_lay_O_raL1142 hv39 dX4_lay_172 ?_
      refine lv_ladd hx hb dX4_lay_173 ?_
      obtain ⟨v40, hv40, hf⟩ := bdP hf
      refine nm_l (Option.some.inj hv40) ?_
      refine ux_X4_18_1055 E hX hD hP hS (hA _ (PA_c (hD.1 _ _ dX_1055))) sgX4_lay_O_zL1057 dX4_lay_174 (fun H locs hP hS => ?_)
      obtain ⟨v41, hv41, hf⟩ := bdP hf
      refine lv_iinc (v := v41) (lv' := [(4, .int v41), (0, .ref (ad 1055)), (1, .ref (ad 2000))]) hx hb dX4_lay_177 hl (k := 2) rfl (Option.some.inj hv41) (by decide) rfl (fun ls hl => ?_)
      refine lv_goto (tgt := 152) hx hb dX4_lay_180 (by decide) ?_
      exact ih152 _ (Option.some.inj hf).symm H locs hP hS ls (lv_sub hl [1, 2, 0] rfl) KE152_0
  obtain ⟨ex152, hlp152, hf⟩ := bdP hf
  refine LP152 (0, 0) ex152 hlp152 H locs hP hS ls (lv_sub hl [1, 2, 0] rfl) ?_
  intro z42 hex152 H locs hP hS ls hl
  subst ex152
  refine lv_aload_n hx hb dX4_lay_183 rfl (lv_at hl 0 rfl) ?_
  refine lv_aload_n hx hb dX4_lay_184 rfl (lv_at hl 1 rfl) ?_
  obtain ⟨a43, u44, hf⟩ := bdP hf
  refine cx_X4_40_X4_join_O E hX hD hP hS hA (kxX4_join_O l D G hD sgX4_lay_O_rzI2027 sgX4_lay_O_raI1170 sgX4_lay_O_raL1142 sgX4_lay_O_raL1143 u44) ⟨rfl, rfl⟩ ⟨Nat.le_of_ble_eq_true rfl, Nat.le_of_ble_eq_true rfl⟩ ⟨Nat.zero_le _, Nat.zero_le _⟩ hl.1 (Nat.le_of_ble_eq_true rfl) dX4_lay_185 (fun H locs hP hS => ?_)
  rw [sgX4_lay_O_aL1143] at hP
  cases hf
  rw [hQ]; exact g_vret hx hb hr hlk hP hS dX4_lay_188
theorem kxX4_lay_O (l : Launch) (D : va_G) (G : Nat → ClassId) {dsc : Nat → Option Dsc} {ad : Nat → Nat} {σ : Sto} {nr nw nu : Nat} (hD : XD dsc nr nw nu) {x2 : Int32} {x3 : Int32} {w_zL1057 : Int64} {w_aL1142 : Nat → Int64} {w_aL1143 : Nat → Int64} {z_L_causes : Int32} (e_zI2009 : σ.1 2009 = z_L_causes) {z_Ld_size : Int32} (e_zI2027 : σ.1 2027 = z_Ld_size) {z_O_all : Int64} (e_zL1057 : σ.2.1 1057 = z_O_all) {a_UNIT : Nat → Int32} (e_aI1170 : σ.2.2.1 1170 = a_UNIT) {a_Ld_data : Nat → Int32} (e_aI2036 : σ.2.2.1 2036 = a_Ld_data) {a_L_comes : Nat → Int32} (e_aI2042 : σ.2.2.1 2042 = a_L_comes) {a_O_world : Nat → Int64} (e_aL1142 : σ.2.2.2.1 1142 = a_O_world) {a_O_likely : Nat → Int64} (e_aL1143 : σ.2.2.2.1 1143 = a_O_likely) {n_r : Nat} (e_nN0 : nr = n_r) {p_road_doubt : Nat → Int32} (e_pR3 : (fun k => σ.1 (6000 + 16 * k + 3)) = p_road_doubt) {p_road_cause : Nat → Int32} (e_pR4 : (fun k => σ.1 (6000 + 16 * k + 4)) = p_road_cause) (hf : xo_X4_lay_W z_L_causes z_Ld_size z_O_all a_UNIT a_Ld_data a_L_comes a_O_world a_O_likely n_r p_road_doubt p_road_cause x2 x3 = some (w_zL1057, w_aL1142, w_aL1143)) : CtG l D G dsc ad yX4_lay (ws_ yX4_lay cX4_lay 8 (Option.none : Option Jvm.ClassFile.FieldType)) rmX4_lay_O [.ref (ad 1055), .ref (ad 2000), .int x2, .int x3] σ none (aL (aL (zL σ 1057 w_zL1057) 1142 w_aL1142) 1143 w_aL1143) := by
  subst e_zI2009
  subst e_zI2027
  subst e_zL1057
  subst e_aI1170
  subst e_aI2036
  subst e_aI2042
  subst e_aL1142
  subst e_aL1143
  subst e_nN0
  subst e_pR3
  subst e_pR4
  exact p_ctG (by decide +kernel) (Nat.le_of_ble_eq_true rfl) (fun p e s m below meth c0 ls A E hP hX hA hS hl => wkX4_lay_O E hX hD hA hf rfl hP hS hl)
theorem gx_X5_3_1070 (E : EN p s m args meth c0 RX5 cc nL ret) (hX : KX D G ad A s s.heap) (hD : XD dsc nr nw nu) (hP : PIC D clsA G dsc ad σ H) (hdg : decode cc pc = .ok (.getfield 3, 3)) (kk : W p l e R s m args below meth c0 H locs cells slots Q (F0 m (pc + 3) ls (.ref (ad 1000) :: rest))) : W p l e R s m args below meth c0 H locs cells slots Q (F0 m pc ls (.ref (ad 1070) :: rest)) :=
  p_get E.1.1 E.1.2.1 E.1.2.2.2.2 in_X6 E.1.2.2.2.1 hX.1 hP (hD.1 _ _ dX_1070) rfl 3 (by decide) (E.1.2.2.2.2 _ q364) (fun _ h => h) rfl rfl hdg kk
/-! X5_notKnown_TO (I)I -/
abbrev rmX5_notKnown_TO : Room := { frames := 1, cells := 0, slots := 0, locals := 21 }
set_option maxHeartbeats 4000000 in
theorem wkX5_notKnown_TO {x1 : Int32} {r_ : Int32} (E : EN p s m args meth c0 RX5 cX5_notKnown 4 (Option.some Jvm.ClassFile.FieldType.int)) (hX : KX D G ad A s s.heap) (hD : XD dsc nr nw nu) (hA : ∀ q, PA dsc ad s.heap.size q → A q) (hf : xo_X5_notKnown_TB (σ.1 2027) (σ.2.2.1 1170) x1 = some r_) (hQ : Q = MQ below (va_G1 (some (.int r_)) (fun t => PIC D clsA G dsc ad σ t.heap) A) args s 0 0 A) (hP : PIC D clsA G dsc ad σ H) (hS : va_S A s.heap H locs) (hl : lv_has ls 4 [(0, .ref (ad 1070)), (1, .int x1)]) : W p l e rmX5_notKnown_TO s m args below meth c0 H locs 0 0 Q (F0 m 0 ls []) := by
  obtain ⟨⟨hx, hb, hml, hown, hts⟩, hr, hlk⟩ := id E
  unfold xo_X5_notKnown_TB at hf
  refine lv_iconst hx hb dX5_notKnown_0 ic_0 ?_
  refine lv_istore_n (lv' := [(2, .int 0), (0, .ref (ad 1070)), (1, .int x1)]) hx hb dX5_notKnown_1 rfl hl (by decide) rfl (fun ls hl => ?_)
  refine lv_iconst hx hb dX5_notKnown_2 ic_0 ?_
  refine lv_istore_n (lv' := [(3, .int 0), (2, .int 0), (0, .ref (ad 1070)), (1, .int x1)]) hx hb dX5_notKnown_3 rfl hl (by decide) rfl (fun ls hl => ?_)
  have LP4 : ∀ (st4 : Int32 × Int32) (ex4 : (Int32)), loop (xo_X5_notKnown_TB_L4 (σ.1 2027) (σ.2.2.1 1170) x1) st4 = some ex4 → ∀ (H : Heap) (locs : List Loc), PIC D clsA G dsc ad σ H → va_S A s.heap H locs → ∀ (ls : Array Slot), lv_has ls 4 [(0, .ref (ad 1070)), (1, .int x1), (2, .int (st4.1)), (3, .int (st4.2))] → (∀ (y13 : Int32), ex4 = y13 → ∀ (H : Heap) (locs : List Loc), PIC D clsA G dsc ad σ H → va_S A s.heap H locs → ∀ (ls : Array Slot), lv_has ls 4 [(2, .int y13)] → W p l e rmX5_notKnown_TO s m args below meth c0 H locs 0 0 Q (F0 m 43 ls [])) → W p l e rmX5_notKnown_TO s m args below meth c0 H locs 0 0 Q (F0 m 4 ls []) := by
    refine loop_P (fun st4 ex4 o4 hf ih4 hx4 => ?_)
    obtain ⟨y1, y2⟩ := st4
    intro H locs (hP : PIC D clsA G dsc ad σ H) hS ls (hl : lv_has ls 4 [(0, .ref (ad 1070)), (1, .int x1), (2, .int y1), (3, .int y2)]) KE4_0
    dsimp only [xo_X5_notKnown_TB_L4] at hf
    refine lv_iload_n hx hb dX5_notKnown_4 rfl (lv_at hl 3 rfl) ?_
    refine lv_aload_n hx hb dX5_notKnown_5 rfl (lv_at hl 0 rfl) ?_
    refine gx_X5_3_1070 E hX hD hP dX5_notKnown_6 ?_
    refine gx_X5_27_1000 E hX hD hP dX5_notKnown_9 ?_
    refine gx_X5_31_2000 E hX hD hP dX5_notKnown_12 ?_
    obtain ⟨v3, u4, hf⟩ := bdP hf
    refine cx_X5_37_J2_size_Ld E hX hD hP hS hA (kxJ2_size_Ld l D G hD rfl u4) ⟨rfl, rfl⟩ ⟨Nat.le_of_ble_eq_true rfl, Nat.le_of_ble_eq_true rfl⟩ ⟨Nat.zero_le _, Nat.zero_le _⟩ hl.1 (Nat.le_of_ble_eq_true rfl) dX5_notKnown_15 (fun H locs hP hS => ?_)
    refine lv_icmp_ge (tgt := 43) hx hb dX5_notKnown_18 (by decide) (fun c5 => ?_) (fun c5 => ?_)
    · have hf := ifT c5 hf
      exact KE4_0 _ (hx4 _ (Option.some.inj hf).symm).symm H locs hP hS ls (lv_sub hl [2] rfl)
    · have hf := ifF c5 hf
      refine lv_iload_n hx hb dX5_notKnown_21 rfl (lv_at hl 2 rfl) ?_
      refine lv_iload_n hx hb dX5_notKnown_22 rfl (lv_at hl 1 rfl) ?_
      refine lv_iload_n hx hb dX5_notKnown_23 rfl (lv_at hl 3 rfl) ?_
      obtain ⟨v6, u7, hf⟩ := bdP hf
      refine cx_X5_59_X1_digit E hX hD hP hS hA (kxX1_digit l D G hD rfl u7) ⟨rfl, rfl⟩ ⟨Nat.le_of_ble_eq_true rfl, Nat.le_of_ble_eq_true rfl⟩ ⟨Nat.zero_le _, Nat.zero_le _⟩ hl.1 (Nat.le_of_ble_eq_true rfl) dX5_notKnown_24 (fun H locs hP hS => ?_)
      have J35 : ∀ (k8 : Int32) (k9 : Int32), xo_X5_notKnown_TB_J35 y2 k8 k9 = some o4 → ∀ (H : Heap) (locs : List Loc), PIC D clsA G dsc ad σ H → va_S A s.heap H locs → ∀ (ls : Array Slot), lv_has ls 4 [(0, .ref (ad 1070)), (1, .int x1), (3, .int y2)] → W p l e rmX5_notKnown_TO s m args below meth c0 H locs 0 0 Q (F0 m 35 ls [.int k8, .int k9]) := by
        intro k8 k9 hf H locs hP hS ls hl
        unfold xo_X5_notKnown_TB_J35 at hf
        refine lv_iadd hx hb dX5_notKnown_35 ?_
        obtain ⟨v10, hv10, hf⟩ := bdP hf
        refine nm_i (Option.some.inj hv10) ?_
        refine lv_istore_n (lv' := [(2, .int v10), (0, .ref (ad 1070)), (1, .int x1), (3, .int y2)]) hx hb dX5_notKnown_36 rfl hl (by decide) rfl (fun ls hl => ?_)
        obtain ⟨v11, hv11, hf⟩ := bdP hf
        refine lv_iinc (v := v11) (lv' := [(3, .int v11), (2, .int v10), (0, .ref (ad 1070)), (1, .int x1)]) hx hb dX5_notKnown_37 hl (k := 3) rfl (Option.some.inj hv11) (by decide) rfl (fun ls hl => ?_)
        refine lv_goto (tgt := 4) hx hb dX5_notKnown_40 (by decide) ?_
        exact ih4 _ (Option.some.inj hf).symm H locs hP hS ls (lv_sub hl [2, 3, 1, 0] rfl) KE4_0
      refine lv_if_ne (tgt := 34) hx hb dX5_notKnown_27 (by decide) (fun c12 => ?_) (fun c12 => ?_)
      · have hf := ifF c12 hf
        refine lv_iconst hx hb dX5_notKnown_34 ic_0 ?_
        exact J35 0 y1 hf H locs hP hS ls (lv_sub hl [0, 1, 3] rfl)
      · have hf := ifT c12 hf
        refine lv_iconst hx hb dX5_notKnown_30 ic_1 ?_
        refine lv_goto (tgt := 35) hx hb dX5_notKnown_31 (by decide) ?_
        exact J35 1 y1 hf H locs hP hS ls (lv_sub hl [0, 1, 3] rfl)
  obtain ⟨ex4, hlp4, hf⟩ := bdP hf
  refine LP4 (0, 0) ex4 hlp4 H locs hP hS ls (lv_sub hl [2, 3, 1, 0] rfl) ?_
  intro y13 hex4 H locs hP hS ls hl
  subst ex4
  refine lv_iload_n hx hb dX5_notKnown_43 rfl (lv_at hl 0 rfl) ?_
  cases hf
  rw [hQ]; exact g_iret hx hb hr hlk hP hS dX5_notKnown_44
theorem kxX5_notKnown_TO (l : Launch) (D : va_G) (G : Nat → ClassId) {dsc : Nat → Option Dsc} {ad : Nat → Nat} {σ : Sto} {nr nw nu : Nat} (hD : XD dsc nr nw nu) {x1 : Int32} {r_ : Int32} {z_Ld_size : Int32} (e_zI2027 : σ.1 2027 = z_Ld_size) {a_UNIT : Nat → Int32} (e_aI1170 : σ.2.2.1 1170 = a_UNIT) (hf : xo_X5_notKnown_TB z_Ld_size a_UNIT x1 = some r_) : CtG l D G dsc ad yX5_notKnown (ws_ yX5_notKnown cX5_notKnown 4 (Option.some Jvm.ClassFile.FieldType.int)) rmX5_notKnown_TO [.ref (ad 1070), .int x1] σ (some (.int r_)) σ := by
  subst e_zI2027
  subst e_aI1170
  exact p_ctG (by decide +kernel) (Nat.le_of_ble_eq_true rfl) (fun p e s m below meth c0 ls A E hP hX hA hS hl => wkX5_notKnown_TO E hX hD hA hf rfl hP hS hl)
/-! X6_end_TO (I)J -/
abbrev rmX6_end_TO : Room := { frames := 0, cells := 0, slots := 0, locals := 0 }
set_option maxHeartbeats 4000000 in
theorem wkX6_end_TO {x1 : Int32} {r_ : Int64} (E : EN p s m args meth c0 RX6 cX6_end 2 (Option.some Jvm.ClassFile.FieldType.long)) (hX : KX D G ad A s s.heap) (hD : XD dsc nr nw nu) (hA : ∀ q, PA dsc ad s.heap.size q → A q) (hf : xo_X6_end_TB x1 = some r_) (hQ : Q = MQ below (va_G1 (some (.long r_)) (fun t => PIC D clsA G dsc ad σ t.heap) A) args s 0 0 A) (hP : PIC D clsA G dsc ad σ H) (hS : va_S A s.heap H locs) (hl : lv_has ls 2 [(0, .ref (ad 1070)), (1, .int x1)]) : W p l e rmX6_end_TO s m args below meth c0 H locs 0 0 Q (F0 m 0 ls []) := by
  obtain ⟨⟨hx, hb, hml, hown, hts⟩, hr, hlk⟩ := id E
  unfold xo_X6_end_TB at hf
  refine lv_lconst hx hb dX6_end_0 lc_0 ?_
  cases hf
  rw [hQ]; exact g_lret hx hb hr hlk hP hS dX6_end_1
theorem kxX6_end_TO (l : Launch) (D : va_G) (G : Nat → ClassId) {dsc : Nat → Option Dsc} {ad : Nat → Nat} {σ : Sto} {nr nw nu : Nat} (hD : XD dsc nr nw nu) {x1 : Int32} {r_ : Int64} (hf : xo_X6_end_TB x1 = some r_) : CtG l D G dsc ad yX6_end (ws_ yX6_end cX6_end 2 (Option.some Jvm.ClassFile.FieldType.long)) rmX6_end_TO [.ref (ad 1070), .int x1] σ (some (.long r_)) σ := by
  exact p_ctG (by decide +kernel) (Nat.le_of_ble_eq_true rfl) (fun p e s m below meth c0 ls A E hP hX hA hS hl => wkX6_end_TO E hX hD hA hf rfl hP hS hl)
theorem gx_X5_15_1070 (E : EN p s m args meth c0 RX5 cc nL ret) (hX : KX D G ad A s s.heap) (hD : XD dsc nr nw nu) (hP : PIC D clsA G dsc ad σ H) (hdg : decode cc pc = .ok (.getfield 15, 3)) (kk : W p l e R s m args below meth c0 H locs cells slots Q (F0 m (pc + 3) ls (.ref (ad 1151) :: rest))) : W p l e R s m args below meth c0 H locs cells slots Q (F0 m pc ls (.ref (ad 1070) :: rest)) :=
  p_get E.1.1 E.1.2.1 E.1.2.2.2.2 in_X6 E.1.2.2.2.1 hX.1 hP (hD.1 _ _ dX_1070) rfl 0 (by decide) (E.1.2.2.2.2 _ q352) (fun _ h => h) rfl rfl hdg kk
/-! X5_value_TO (II)J -/
abbrev rmX5_value_TO : Room := { frames := 0, cells := 0, slots := 0, locals := 0 }
set_option maxHeartbeats 4000000 in
theorem wkX5_value_TO {x1 : Int32} {x2 : Int32} {r_ : Int64} (E : EN p s m args meth c0 RX5 cX5_value 3 (Option.some Jvm.ClassFile.FieldType.long)) (hX : KX D G ad A s s.heap) (hD : XD dsc nr nw nu) (hA : ∀ q, PA dsc ad s.heap.size q → A q) (hf : xo_X5_value_TB (σ.2.2.2.1 1151) x1 x2 = some r_) (hQ : Q = MQ below (va_G1 (some (.long r_)) (fun t => PIC D clsA G dsc ad σ t.heap) A) args s 0 0 A) (hP : PIC D clsA G dsc ad σ H) (hS : va_S A s.heap H locs) (hl : lv_has ls 3 [(0, .ref (ad 1070)), (1, .int x1), (2, .int x2)]) : W p l e rmX5_value_TO s m args below meth c0 H locs 0 0 Q (F0 m 0 ls []) := by
  obtain ⟨⟨hx, hb, hml, hown, hts⟩, hr, hlk⟩ := id E
  unfold xo_X5_value_TB at hf
  refine lv_aload_n hx hb dX5_value_0 rfl (lv_at hl 0 rfl) ?_
  refine gx_X5_15_1070 E hX hD hP dX5_value_1 ?_
  refine lv_bipush hx hb dX5_value_4 bp_10 ?_
  refine lv_iload_n hx hb dX5_value_6 rfl (lv_at hl 2 rfl) ?_
  refine lv_imul hx hb dX5_value_7 ?_
  refine lv_iload_n hx hb dX5_value_8 rfl (lv_at hl 1 rfl) ?_
  refine lv_iadd hx hb dX5_value_9 ?_
  obtain ⟨v1, hv1, hf⟩ := bdP hf
  refine p_lald hx hb hX.1 hP (hD.1 _ _ dX_1151) rfl hv1 dX5_value_10 ?_
  cases hf
  rw [hQ]; exact g_lret hx hb hr hlk hP hS dX5_value_11
theorem kxX5_value_TO (l : Launch) (D : va_G) (G : Nat → ClassId) {dsc : Nat → Option Dsc} {ad : Nat → Nat} {σ : Sto} {nr nw nu : Nat} (hD : XD dsc nr nw nu) {x1 : Int32} {x2 : Int32} {r_ : Int64} {a_TO_value : Nat → Int64} (e_aL1151 : σ.2.2.2.1 1151 = a_TO_value) (hf : xo_X5_value_TB a_TO_value x1 x2 = some r_) : CtG l D G dsc ad yX5_value (ws_ yX5_value cX5_value 3 (Option.some Jvm.ClassFile.FieldType.long)) rmX5_value_TO [.ref (ad 1070), .int x1, .int x2] σ (some (.long r_)) σ := by
  subst e_aL1151
  exact p_ctG (by decide +kernel) (Nat.le_of_ble_eq_true rfl) (fun p e s m below meth c0 ls A E hP hX hA hS hl => wkX5_value_TO E hX hD hA hf rfl hP hS hl)
/-! X6_both_TO (JJ)J -/
abbrev rmX6_both_TO : Room := { frames := 0, cells := 0, slots := 0, locals := 0 }
set_option maxHeartbeats 4000000 in
theorem wkX6_both_TO {x1 : Int64} {x3 : Int64} {r_ : Int64} (E : EN p s m args meth c0 RX6 cX6_both 5 (Option.some Jvm.ClassFile.FieldType.long)) (hX : KX D G ad A s s.heap) (hD : XD dsc nr nw nu) (hA : ∀ q, PA dsc ad s.heap.size q → A q) (hf : xo_X6_both_TB x1 x3 = some r_) (hQ : Q = MQ below (va_G1 (some (.long r_)) (fun t => PIC D clsA G dsc ad σ t.heap) A) args s 0 0 A) (hP : PIC D clsA G dsc ad σ H) (hS : va_S A s.heap H locs) (hl : lv_has ls 5 [(0, .ref (ad 1070)), (1, .long x1), (3, .long x3)]) : W p l e rmX6_both_TO s m args below meth c0 H locs 0 0 Q (F0 m 0 ls []) := by
  obtain ⟨⟨hx, hb, hml, hown, hts⟩, hr, hlk⟩ := id E
  unfold xo_X6_both_TB at hf
  refine lv_lload_n hx hb dX6_both_0 rfl (lv_at hl 1 rfl) ?_
  refine lv_lload_n hx hb dX6_both_1 rfl (lv_at hl 2 rfl) ?_
  refine lv_ladd hx hb dX6_both_2 ?_
  cases hf
  rw [hQ]; exact g_lret hx hb hr hlk hP hS dX6_both_3
theorem kxX6_both_TO (l : Launch) (D : va_G) (G : Nat → ClassId) {dsc : Nat → Option Dsc} {ad : Nat → Nat} {σ : Sto} {nr nw nu : Nat} (hD : XD dsc nr nw nu) {x1 : Int64} {x3 : Int64} {r_ : Int64} (hf : xo_X6_both_TB x1 x3 = some r_) : CtG l D G dsc ad yX6_both (ws_ yX6_both cX6_both 5 (Option.some Jvm.ClassFile.FieldType.long)) rmX6_both_TO [.ref (ad 1070), .long x1, .long x3] σ (some (.long r_)) σ := by
  exact p_ctG (by decide +kernel) (Nat.le_of_ble_eq_true rfl) (fun p e s m below meth c0 ls A E hP hX hA hS hl => wkX6_both_TO E hX hD hA hf rfl hP hS hl)
theorem cx_X5_125_X5_shown_TO {rm : Room} {σ1 : Sto} {x1 : Int32} {x2 : Int32} {x3 : Int32} {x4 : Int32} {x5 : Int32} {r : Int64} (E : EN p s m args meth c0 RX5 cc nL ret) (hX : KX D G ad A s s.heap) (hD : XD dsc nr nw nu) (hP : PIC D clsA G dsc ad σ H) (hS : va_S A s.heap H locs) (hA : ∀ q, PA dsc ad s.heap.size q → A q) (hM : CtG l D G dsc ad yX5_shown (ws_ yX5_shown cX5_shown 6 (Option.some Jvm.ClassFile.FieldType.long)) rm [.ref (ad 1070), .int x1, .int x2, .int x3, .int x4, .int x5] σ (some (.long r)) σ1) (hz : rm.cells = 0 ∧ rm.slots = 0) (hR : rm.frames + 1 ≤ R.frames ∧ 8 + (6 + 11) + rm.locals ≤ R.locals) (hcs : cells ≤ R.cells ∧ slots ≤ R.slots) (hsz : ls.size = nL) (hW : (rest.map fun v => v.category).sum ≤ 8) (hdg : decode cc pc = .ok (.invokevirtual 125, 3)) (kk : ∀ (H1 : Heap) (locs1 : List Loc), PIC D clsA G dsc ad σ1 H1 → va_S A s.heap H1 locs1 → W p l e R s m args below meth c0 H1 locs1 cells slots Q (F0 m (pc + 3) ls (.long r :: rest))) : W p l e R s m args below meth c0 H locs cells slots Q (F0 m pc ls (.int x5 :: .int x4 :: .int x3 :: .int x2 :: .int x1 :: .ref (ad 1070) :: rest)) :=
  p_gU (As := [.int x1, .int x2, .int x3, .int x4, .int x5]) (rest := rest) E.1 hX hP hS hA hM (cw_any (owner := "ShutPasses$Table") (x := ⟨"ShutPasses$Table", "shown", "(IIIII)J"⟩) (y := yX5_shown) (C := "ShutPasses$InMean") (index := 125) (own := RX5) 5 E.1.2.2.2.2 (lw_meth q1136) rfl hz.1 hz.2 (E.1.2.2.2.2 _ q1133) (E.1.2.2.2.2 _ q2281) (va_Decl.of (E.1.2.2.2.2 _ q1135) (E.1.2.2.2.2 _ q1136)) (va_Nw.use rfl (hX.2.1.2 ("ShutPasses$InMean", yX5_shown) (by decide +kernel))) (E.1.2.2.2.2 _ q1135) (E.1.2.2.2.2 _ q131) (by decide +kernel) hR) (hD.1 _ _ dX_1070) rfl rfl rfl hsz rfl hW hdg hcs kk
theorem gx_X5_23_1070 {v : Int32} (E : EN p s m args meth c0 RX5 cc nL ret) (hX : KX D G ad A s s.heap) (hD : XD dsc nr nw nu) (hP : PIC D clsA G dsc ad σ H) (hv : σ.1 1072 = v) (hdg : decode cc pc = .ok (.getfield 23, 3)) (kk : W p l e R s m args below meth c0 H locs cells slots Q (F0 m (pc + 3) ls (va_rf (drf ad 1055 v) :: rest))) : W p l e R s m args below meth c0 H locs cells slots Q (F0 m pc ls (.ref (ad 1070) :: rest)) :=
  p_get E.1.1 E.1.2.1 E.1.2.2.2.2 in_X6 E.1.2.2.2.1 hX.1 hP (hD.1 _ _ dX_1070) rfl 2 (by decide) (E.1.2.2.2.2 _ q363) (fun _ h => h) rfl (congrArg (fun z => va_rf (drf ad 1055 z)) hv) hdg kk
theorem gx_X5_46_1055 (E : EN p s m args meth c0 RX5 cc nL ret) (hX : KX D G ad A s s.heap) (hD : XD dsc nr nw nu) (hP : PIC D clsA G dsc ad σ H) (hdg : decode cc pc = .ok (.getfield 46, 3)) (kk : W p l e R s m args below meth c0 H locs cells slots Q (F0 m (pc + 3) ls (.ref (ad 1143) :: rest))) : W p l e R s m args below meth c0 H locs cells slots Q (F0 m pc ls (.ref (ad 1055) :: rest)) :=
  p_getN E.1.1 E.1.2.1 E.1.2.2.2.2 in_X4 E.1.2.2.2.1 hX.1 hP (hD.1 _ _ dX_1055) rfl 1 (by decide) (hX.2.1.1 _ q329 rfl) (fun _ h => h) rfl rfl hdg kk
theorem gx_X5_19_1070 {v : Int64} (E : EN p s m args meth c0 RX5 cc nL ret) (hX : KX D G ad A s s.heap) (hD : XD dsc nr nw nu) (hP : PIC D clsA G dsc ad σ H) (hv : σ.2.1 1071 = v) (hdg : decode cc pc = .ok (.getfield 19, 3)) (kk : W p l e R s m args below meth c0 H locs cells slots Q (F0 m (pc + 3) ls (.long v :: rest))) : W p l e R s m args below meth c0 H locs cells slots Q (F0 m pc ls (.ref (ad 1070) :: rest)) :=
  p_get E.1.1 E.1.2.1 E.1.2.2.2.2 in_X6 E.1.2.2.2.1 hX.1 hP (hD.1 _ _ dX_1070) rfl 1 (by decide) (E.1.2.2.2.2 _ q353) (fun _ h => h) rfl (congrArg Value.long hv) hdg kk
theorem cx_X5_132_X6_both_TO {rm : Room} {σ1 : Sto} {x1 : Int64} {x3 : Int64} {r : Int64} (E : EN p s m args meth c0 RX5 cc nL ret) (hX : KX D G ad A s s.heap) (hD : XD dsc nr nw nu) (hP : PIC D clsA G dsc ad σ H) (hS : va_S A s.heap H locs) (hA : ∀ q, PA dsc ad s.heap.size q → A q) (hM : CtG l D G dsc ad yX6_both (ws_ yX6_both cX6_both 5 (Option.some Jvm.ClassFile.FieldType.long)) rm [.ref (ad 1070), .long x1, .long x3] σ (some (.long r)) σ1) (hz : rm.cells = 0 ∧ rm.slots = 0) (hR : rm.frames + 1 ≤ R.frames ∧ 8 + (5 + 11) + rm.locals ≤ R.locals) (hcs : cells ≤ R.cells ∧ slots ≤ R.slots) (hsz : ls.size = nL) (hW : (rest.map fun v => v.category).sum ≤ 8) (hdg : decode cc pc = .ok (.invokevirtual 132, 3)) (kk : ∀ (H1 : Heap) (locs1 : List Loc), PIC D clsA G dsc ad σ1 H1 → va_S A s.heap H1 locs1 → W p l e R s m args below meth c0 H1 locs1 cells slots Q (F0 m (pc + 3) ls (.long r :: rest))) : W p l e R s m args below meth c0 H locs cells slots Q (F0 m pc ls (.long x3 :: .long x1 :: .ref (ad 1070) :: rest)) :=
  p_gU (As := [.long x1, .long x3]) (rest := rest) E.1 hX hP hS hA hM (cw_any (owner := "ShutPasses$Table") (x := ⟨"ShutPasses$Table", "both", "(JJ)J"⟩) (y := yX6_both) (C := "ShutPasses$InMean") (index := 132) (own := RX5) 2 E.1.2.2.2.2 (lw_meth q1151) rfl hz.1 hz.2 (E.1.2.2.2.2 _ q1140) (E.1.2.2.2.2 _ q1142) (va_Decl.abs (hX.2.1.1 _ q1141 rfl)) (E.1.2.2.2.2 _ q1149) (E.1.2.2.2.2 _ q1150) (E.1.2.2.2.2 _ q132) (by decide +kernel) hR) (hD.1 _ _ dX_1070) rfl rfl rfl hsz rfl hW hdg hcs kk
theorem cx_X5_117_X5_arrived_TO {rm : Room} {σ1 : Sto} {x1 : Int32} {x2 : Int32} {r : Int64} (E : EN p s m args meth c0 RX5 cc nL ret) (hX : KX D G ad A s s.heap) (hD : XD dsc nr nw nu) (hP : PIC D clsA G dsc ad σ H) (hS : va_S A s.heap H locs) (hA : ∀ q, PA dsc ad s.heap.size q → A q) (hM : CtG l D G dsc ad yX5_arrived (ws_ yX5_arrived cX5_arrived 3 (Option.some Jvm.ClassFile.FieldType.long)) rm [.ref (ad 1070), .int x1, .int x2] σ (some (.long r)) σ1) (hz : rm.cells = 0 ∧ rm.slots = 0) (hR : rm.frames + 1 ≤ R.frames ∧ 8 + (3 + 11) + rm.locals ≤ R.locals) (hcs : cells ≤ R.cells ∧ slots ≤ R.slots) (hsz : ls.size = nL) (hW : (rest.map fun v => v.category).sum ≤ 8) (hdg : decode cc pc = .ok (.invokevirtual 117, 3)) (kk : ∀ (H1 : Heap) (locs1 : List Loc), PIC D clsA G dsc ad σ1 H1 → va_S A s.heap H1 locs1 → W p l e R s m args below meth c0 H1 locs1 cells slots Q (F0 m (pc + 3) ls (.long r :: rest))) : W p l e R s m args below meth c0 H locs cells slots Q (F0 m pc ls (.int x2 :: .int x1 :: .ref (ad 1070) :: rest)) :=
  p_gU (As := [.int x1, .int x2]) (rest := rest) E.1 hX hP hS hA hM (cw_any (owner := "ShutPasses$Table") (x := ⟨"ShutPasses$Table", "arrived", "(II)J"⟩) (y := yX5_arrived) (C := "ShutPasses$InMean") (index := 117) (own := RX5) 2 E.1.2.2.2.2 (lw_meth q1128) rfl hz.1 hz.2 (E.1.2.2.2.2 _ q1125) (E.1.2.2.2.2 _ q2280) (va_Decl.of (E.1.2.2.2.2 _ q1127) (E.1.2.2.2.2 _ q1128)) (va_Nw.use rfl (hX.2.1.2 ("ShutPasses$InMean", yX5_arrived) (by decide +kernel))) (E.1.2.2.2.2 _ q1127) (E.1.2.2.2.2 _ q131) (by decide +kernel) hR) (hD.1 _ _ dX_1070) rfl rfl rfl hsz rfl hW hdg hcs kk
theorem cx_X5_114_X5_over_TO {rm : Room} {σ1 : Sto} {x1 : Int32} {x2 : Int32} {x3 : Int32} {r : Int64} (E : EN p s m args meth c0 RX5 cc nL ret) (hX : KX D G ad A s s.heap) (hD : XD dsc nr nw nu) (hP : PIC D clsA G dsc ad σ H) (hS : va_S A s.heap H locs) (hA : ∀ q, PA dsc ad s.heap.size q → A q) (hM : CtG l D G dsc ad yX5_over (ws_ yX5_over cX5_over 9 (Option.some Jvm.ClassFile.FieldType.long)) rm [.ref (ad 1070), .int x1, .int x2, .int x3] σ (some (.long r)) σ1) (hz : rm.cells = 0 ∧ rm.slots = 0) (hR : rm.frames + 1 ≤ R.frames ∧ 8 + (9 + 11) + rm.locals ≤ R.locals) (hcs : cells ≤ R.cells ∧ slots ≤ R.slots) (hsz : ls.size = nL) (hW : (rest.map fun v => v.category).sum ≤ 8) (hdg : decode cc pc = .ok (.invokevirtual 114, 3)) (kk : ∀ (H1 : Heap) (locs1 : List Loc), PIC D clsA G dsc ad σ1 H1 → va_S A s.heap H1 locs1 → W p l e R s m args below meth c0 H1 locs1 cells slots Q (F0 m (pc + 3) ls (.long r :: rest))) : W p l e R s m args below meth c0 H locs cells slots Q (F0 m pc ls (.int x3 :: .int x2 :: .int x1 :: .ref (ad 1070) :: rest)) :=
  p_gU (As := [.int x1, .int x2, .int x3]) (rest := rest) E.1 hX hP hS hA hM (cw_any (owner := "ShutPasses$Table") (x := ⟨"ShutPasses$Table", "over", "(III)J"⟩) (y := yX5_over) (C := "ShutPasses$InMean") (index := 114) (own := RX5) 3 E.1.2.2.2.2 (lw_meth q1124) rfl hz.1 hz.2 (E.1.2.2.2.2 _ q1118) (E.1.2.2.2.2 _ q1120) (va_Decl.of (E.1.2.2.2.2 _ q1119) (E.1.2.2.2.2 _ q1124)) (E.1.2.2.2.2 _ q1122) (E.1.2.2.2.2 _ q1119) (E.1.2.2.2.2 _ q131) (by decide +kernel) hR) (hD.1 _ _ dX_1070) rfl rfl rfl hsz rfl hW hdg hcs kk
theorem cx_X5_81_X5_value_TO {rm : Room} {σ1 : Sto} {x1 : Int32} {x2 : Int32} {r : Int64} (E : EN p s m args meth c0 RX5 cc nL ret) (hX : KX D G ad A s s.heap) (hD : XD dsc nr nw nu) (hP : PIC D clsA G dsc ad σ H) (hS : va_S A s.heap H locs) (hA : ∀ q, PA dsc ad s.heap.size q → A q) (hM : CtG l D G dsc ad yX5_value (ws_ yX5_value cX5_value 3 (Option.some Jvm.ClassFile.FieldType.long)) rm [.ref (ad 1070), .int x1, .int x2] σ (some (.long r)) σ1) (hz : rm.cells = 0 ∧ rm.slots = 0) (hR : rm.frames + 1 ≤ R.frames ∧ 8 + (3 + 11) + rm.locals ≤ R.locals) (hcs : cells ≤ R.cells ∧ slots ≤ R.slots) (hsz : ls.size = nL) (hW : (rest.map fun v => v.category).sum ≤ 8) (hdg : decode cc pc = .ok (.invokevirtual 81, 3)) (kk : ∀ (H1 : Heap) (locs1 : List Loc), PIC D clsA G dsc ad σ1 H1 → va_S A s.heap H1 locs1 → W p l e R s m args below meth c0 H1 locs1 cells slots Q (F0 m (pc + 3) ls (.long r :: rest))) : W p l e R s m args below meth c0 H locs cells slots Q (F0 m pc ls (.int x2 :: .int x1 :: .ref (ad 1070) :: rest)) :=
  p_gU (As := [.int x1, .int x2]) (rest := rest) E.1 hX hP hS hA hM (cw_any (owner := "ShutPasses$Table") (x := ⟨"ShutPasses$Table", "value", "(II)J"⟩) (y := yX5_value) (C := "ShutPasses$InMean") (index := 81) (own := RX5) 2 E.1.2.2.2.2 (lw_meth q1096) rfl hz.1 hz.2 (E.1.2.2.2.2 _ q1090) (E.1.2.2.2.2 _ q1092) (va_Decl.of (E.1.2.2.2.2 _ q1091) (E.1.2.2.2.2 _ q1096)) (E.1.2.2.2.2 _ q1094) (E.1.2.2.2.2 _ q1091) (E.1.2.2.2.2 _ q131) (by decide +kernel) hR) (hD.1 _ _ dX_1070) rfl rfl rfl hsz rfl hW hdg hcs kk
theorem cx_X5_70_X6_end_TO {rm : Room} {σ1 : Sto} {x1 : Int32} {r : Int64} (E : EN p s m args meth c0 RX5 cc nL ret) (hX : KX D G ad A s s.heap) (hD : XD dsc nr nw nu) (hP : PIC D clsA G dsc ad σ H) (hS : va_S A s.heap H locs) (hA : ∀ q, PA dsc ad s.heap.size q → A q) (hM : CtG l D G dsc ad yX6_end (ws_ yX6_end cX6_end 2 (Option.some Jvm.ClassFile.FieldType.long)) rm [.ref (ad 1070), .int x1] σ (some (.long r)) σ1) (hz : rm.cells = 0 ∧ rm.slots = 0) (hR : rm.frames + 1 ≤ R.frames ∧ 8 + (2 + 11) + rm.locals ≤ R.locals) (hcs : cells ≤ R.cells ∧ slots ≤ R.slots) (hsz : ls.size = nL) (hW : (rest.map fun v => v.category).sum ≤ 8) (hdg : decode cc pc = .ok (.invokevirtual 70, 3)) (kk : ∀ (H1 : Heap) (locs1 : List Loc), PIC D clsA G dsc ad σ1 H1 → va_S A s.heap H1 locs1 → W p l e R s m args below meth c0 H1 locs1 cells slots Q (F0 m (pc + 3) ls (.long r :: rest))) : W p l e R s m args below meth c0 H locs cells slots Q (F0 m pc ls (.int x1 :: .ref (ad 1070) :: rest)) :=
  p_gU (As := [.int x1]) (rest := rest) E.1 hX hP hS hA hM (cw_any (owner := "ShutPasses$Table") (x := ⟨"ShutPasses$Table", "end", "(I)J"⟩) (y := yX6_end) (C := "ShutPasses$InMean") (index := 70) (own := RX5) 1 E.1.2.2.2.2 (lw_meth q1070) rfl hz.1 hz.2 (E.1.2.2.2.2 _ q1065) (E.1.2.2.2.2 _ q1067) (va_Decl.abs (hX.2.1.1 _ q1066 rfl)) (E.1.2.2.2.2 _ q1071) (E.1.2.2.2.2 _ q1069) (E.1.2.2.2.2 _ q132) (by decide +kernel) hR) (hD.1 _ _ dX_1070) rfl rfl rfl hsz rfl hW hdg hcs kk
abbrev rmG_T_TO (d : Nat) : Room := { frames := 2 + d, cells := 0, slots := 0, locals := 45 + d * 28 }
/-! X5_over_TO (III)J -/
abbrev rmX5_over_TO : Room := rmG_T_TO 40
set_option maxHeartbeats 4000000 in
theorem wkX5_over_TO {x1 : Int32} {x2 : Int32} {x3 : Int32} {r_ : Int64} {d : Nat} {f_X5_over : Int32 → Int32 → Int32 → Option (Int64)} {f_X5_shown : Int32 → Int32 → Int32 → Int32 → Int32 → Option (Int64)} {f_X5_arrived : Int32 → Int32 → Option (Int64)} (hrec_X5_over : ∀ (σ1 : Sto) {x1 : Int32} {x2 : Int32} {x3 : Int32} {r_ : Int64} (_ : σ1.1 1072 = (σ.1 1072)) (_ : σ1.1 2013 = (σ.1 2013)) (_ : σ1.1 2027 = (σ.1 2027)) (_ : σ1.2.1 1071 = (σ.2.1 1071)) (_ : σ1.2.2.1 1170 = (σ.2.2.1 1170)) (_ : σ1.2.2.1 2043 = (σ.2.2.1 2043)) (_ : σ1.2.2.2.1 1143 = (σ.2.2.2.1 1143)) (_ : σ1.2.2.2.1 1151 = (σ.2.2.2.1 1151)), f_X5_over x1 x2 x3 = some r_ → CtG l D G dsc ad yX5_over (ws_ yX5_over cX5_over 9 (Option.some Jvm.ClassFile.FieldType.long)) (rmG_T_TO d) [.ref (ad 1070), .int x1, .int x2, .int x3] σ1 (some (.long r_)) σ1) (hrec_X5_shown : ∀ (σ1 : Sto) {x1 : Int32} {x2 : Int32} {x3 : Int32} {x4 : Int32} {x5 : Int32} {r_ : Int64} (_ : σ1.1 1072 = (σ.1 1072)) (_ : σ1.1 2013 = (σ.1 2013)) (_ : σ1.1 2027 = (σ.1 2027)) (_ : σ1.2.1 1071 = (σ.2.1 1071)) (_ : σ1.2.2.1 1170 = (σ.2.2.1 1170)) (_ : σ1.2.2.1 2043 = (σ.2.2.1 2043)) (_ : σ1.2.2.2.1 1143 = (σ.2.2.2.1 1143)) (_ : σ1.2.2.2.1 1151 = (σ.2.2.2.1 1151)), f_X5_shown x1 x2 x3 x4 x5 = some r_ → CtG l D G dsc ad yX5_shown (ws_ yX5_shown cX5_shown 6 (Option.some Jvm.ClassFile.FieldType.long)) (rmG_T_TO d) [.ref (ad 1070), .int x1, .int x2, .int x3, .int x4, .int x5] σ1 (some (.long r_)) σ1) (hrec_X5_arrived : ∀ (σ1 : Sto) {x1 : Int32} {x2 : Int32} {r_ : Int64} (_ : σ1.1 1072 = (σ.1 1072)) (_ : σ1.1 2013 = (σ.1 2013)) (_ : σ1.1 2027 = (σ.1 2027)) (_ : σ1.2.1 1071 = (σ.2.1 1071)) (_ : σ1.2.2.1 1170 = (σ.2.2.1 1170)) (_ : σ1.2.2.1 2043 = (σ.2.2.1 2043)) (_ : σ1.2.2.2.1 1143 = (σ.2.2.2.1 1143)) (_ : σ1.2.2.2.1 1151 = (σ.2.2.2.1 1151)), f_X5_arrived x1 x2 = some r_ → CtG l D G dsc ad yX5_arrived (ws_ yX5_arrived cX5_arrived 3 (Option.some Jvm.ClassFile.FieldType.long)) (rmG_T_TO d) [.ref (ad 1070), .int x1, .int x2] σ1 (some (.long r_)) σ1) (E : EN p s m args meth c0 RX5 cX5_over 9 (Option.some Jvm.ClassFile.FieldType.long)) (hX : KX D G ad A s s.heap) (hD : XD dsc nr nw nu) (hA : ∀ q, PA dsc ad s.heap.size q → A q) (hf : xo_X5_over_TB_B f_X5_over f_X5_shown f_X5_arrived (σ.1 1072) (σ.1 2013) (σ.1 2027) (σ.2.1 1071) (σ.2.2.1 1170) (σ.2.2.1 2043) (σ.2.2.2.1 1143) (σ.2.2.2.1 1151) x1 x2 x3 = some r_) (hQ : Q = MQ below (va_G1 (some (.long r_)) (fun t => PIC D clsA G dsc ad σ t.heap) A) args s 0 0 A) (hP : PIC D clsA G dsc ad σ H) (hS : va_S A s.heap H locs) (hl : lv_has ls 9 [(0, .ref (ad 1070)), (1, .int x1), (2, .int x2), (3, .int x3)]) : W p l e (rmG_T_TO (d + 1)) s m args below meth c0 H locs 0 0 Q (F0 m 0 ls []) := by
  obtain ⟨⟨hx, hb, hml, hown, hts⟩, hr, hlk⟩ := id E
  unfold xo_X5_over_TB_B at hf
  refine lv_iload_n hx hb dX5_over_0 rfl (lv_at hl 1 rfl) ?_
  refine lv_if_ne (tgt := 11) hx hb dX5_over_1 (by decide) (fun c1 => ?_) (fun c1 => ?_)
  · have hf := ifF c1 hf
    refine lv_iload_n hx hb dX5_over_11 rfl (lv_at hl 1 rfl) ?_
    obtain ⟨v2, u3, hf⟩ := bdP hf
    refine cx_X5_120_J17_numberOfTrailingZeros E hX hD hP hS hA (kxJ17_numberOfTrailingZeros l D G hD u3) ⟨rfl, rfl⟩ ⟨by dsimp only [rmG_T_TO, rmJ17_numberOfTrailingZeros]; omega, by dsimp only [rmG_T_TO, rmJ17_numberOfTrailingZeros]; omega⟩ ⟨Nat.zero_le _, Nat.zero_le _⟩ hl.1 (Nat.le_of_ble_eq_true rfl) dX5_over_12 (fun H locs hP hS => ?_)
    refine lv_istore (lv' := [(4, .int v2), (0, .ref (ad 1070)), (1, .int x1), (2, .int x2), (3, .int x3)]) hx hb dX5_over_15 hl (by decide) rfl (fun ls hl => ?_)
    refine lv_aload_n hx hb dX5_over_17 rfl (lv_at hl 1 rfl) ?_
    refine lv_iload_n hx hb dX5_over_18 rfl (lv_at hl 2 rfl) ?_
    refine lv_iload hx hb dX5_over_19 (lv_at hl 0 rfl) ?_
    refine lv_iconst hx hb dX5_over_21 ic_1 ?_
    refine lv_iload_n hx hb dX5_over_22 rfl (lv_at hl 3 rfl) ?_
    refine lv_iload_n hx hb dX5_over_23 rfl (lv_at hl 4 rfl) ?_
    obtain ⟨v4, u5, hf⟩ := bdP hf
    refine cx_X5_125_X5_shown_TO E hX hD hP hS hA (hrec_X5_shown _ rfl rfl rfl rfl rfl rfl rfl rfl u5) ⟨rfl, rfl⟩ ⟨Nat.le_refl _, by dsimp only [rmG_T_TO]; omega⟩ ⟨Nat.zero_le _, Nat.zero_le _⟩ hl.1 (Nat.le_of_ble_eq_true rfl) dX5_over_24 (fun H locs hP hS => ?_)
    refine lv_lstore (lv' := [(5, .long v4), (4, .int v2), (0, .ref (ad 1070)), (1, .int x1), (2, .int x2), (3, .int x3)]) hx hb dX5_over_27 hl (by decide) rfl (fun ls hl => ?_)
    refine lv_aload_n hx hb dX5_over_29 rfl (lv_at hl 2 rfl) ?_
    refine lv_iload_n hx hb dX5_over_30 rfl (lv_at hl 3 rfl) ?_
    refine lv_iload hx hb dX5_over_31 (lv_at hl 1 rfl) ?_
    refine lv_iconst hx hb dX5_over_33 ic_2 ?_
    refine lv_iload_n hx hb dX5_over_34 rfl (lv_at hl 4 rfl) ?_
    refine lv_iload_n hx hb dX5_over_35 rfl (lv_at hl 5 rfl) ?_
    obtain ⟨v6, u7, hf⟩ := bdP hf
    refine cx_X5_125_X5_shown_TO E hX hD hP hS hA (hrec_X5_shown _ rfl rfl rfl rfl rfl rfl rfl rfl u7) ⟨rfl, rfl⟩ ⟨Nat.le_refl _, by dsimp only [rmG_T_TO]; omega⟩ ⟨Nat.zero_le _, Nat.zero_le _⟩ hl.1 (Nat.le_of_ble_eq_true rfl) dX5_over_36 (fun H locs hP hS => ?_)
    refine lv_lstore (lv' := [(7, .long v6), (5, .long v4), (4, .int v2), (0, .ref (ad 1070)), (1, .int x1), (2, .int x2), (3, .int x3)]) hx hb dX5_over_39 hl (by decide) rfl (fun ls hl => ?_)
    refine lv_aload_n hx hb dX5_over_41 rfl (lv_at hl 3 rfl) ?_
    refine gx_X5_23_1070 (v := (σ.1 1072)) E hX hD hP rfl dX5_over_42 ?_
    obtain ⟨v8, hv8, hf⟩ := bdP hf
    refine p_nn0 (ckz_some hv8) ?_
    refine gx_X5_46_1055 E hX hD hP dX5_over_45 ?_
    refine lv_iload_n hx hb dX5_over_48 rfl (lv_at hl 6 rfl) ?_
    refine lv_iload hx hb dX5_over_49 (lv_at hl 2 rfl) ?_
    refine lv_iconst hx hb dX5_over_51 ic_1 ?_
    obtain ⟨v9, u10, hf⟩ := bdP hf
    refine cx_X5_129_X1_with E hX hD hP hS hA (kxX1_with l D G hD rfl u10) ⟨rfl, rfl⟩ ⟨by dsimp only [rmG_T_TO, rmX1_with]; omega, by dsimp only [rmG_T_TO, rmX1_with]; omega⟩ ⟨Nat.zero_le _, Nat.zero_le _⟩ hl.1 (Nat.le_of_ble_eq_true rfl) dX5_over_52 (fun H locs hP hS => ?_)
    obtain ⟨v11, hv11, hf⟩ := bdP hf
    refine p_lald hx hb hX.1 hP (hD.1 _ _ dX_1143) rfl hv11 dX5_over_55 ?_
    refine lv_lconst hx hb dX5_over_56 lc_0 ?_
    refine W.lcmp hx hb dX5_over_57 ?_
    refine lv_if_ne (tgt := 64) hx hb dX5_over_58 (by decide) (fun c12 => ?_) (fun c12 => ?_)
    · have hf := ifF (mt (lgc_eq _ _).mpr c12) hf
      refine lv_aload_n hx hb dX5_over_64 rfl (lv_at hl 3 rfl) ?_
      refine gx_X5_23_1070 (v := (σ.1 1072)) E hX hD hP rfl dX5_over_65 ?_
      obtain ⟨v13, hv13, hf⟩ := bdP hf
      refine p_nn0 (ckz_some hv13) ?_
      refine gx_X5_46_1055 E hX hD hP dX5_over_68 ?_
      refine lv_iload_n hx hb dX5_over_71 rfl (lv_at hl 6 rfl) ?_
      refine lv_iload hx hb dX5_over_72 (lv_at hl 2 rfl) ?_
      refine lv_iconst hx hb dX5_over_74 ic_2 ?_
      obtain ⟨v14, u15, hf⟩ := bdP hf
      refine cx_X5_129_X1_with E hX hD hP hS hA (kxX1_with l D G hD rfl u15) ⟨rfl, rfl⟩ ⟨by dsimp only [rmG_T_TO, rmX1_with]; omega, by dsimp only [rmG_T_TO, rmX1_with]; omega⟩ ⟨Nat.zero_le _, Nat.zero_le _⟩ hl.1 (Nat.le_of_ble_eq_true rfl) dX5_over_75 (fun H locs hP hS => ?_)
      obtain ⟨v16, hv16, hf⟩ := bdP hf
      refine p_lald hx hb hX.1 hP (hD.1 _ _ dX_1143) rfl hv16 dX5_over_78 ?_
      refine lv_lconst hx hb dX5_over_79 lc_0 ?_
      refine W.lcmp hx hb dX5_over_80 ?_
      refine lv_if_ne (tgt := 87) hx hb dX5_over_81 (by decide) (fun c17 => ?_) (fun c17 => ?_)
      · have hf := ifF (mt (lgc_eq _ _).mpr c17) hf
        refine lv_lload hx hb dX5_over_87 (lv_at hl 1 rfl) ?_
        refine lv_aload_n hx hb dX5_over_89 rfl (lv_at hl 3 rfl) ?_
        refine gx_X5_19_1070 (v := (σ.2.1 1071)) E hX hD hP rfl dX5_over_90 ?_
        refine W.lcmp hx hb dX5_over_93 ?_
        have J107 : xo_X5_over_TB_J107 (σ.2.1 1071) = some r_ → ∀ (H : Heap) (locs : List Loc), PIC D clsA G dsc ad σ H → va_S A s.heap H locs → ∀ (ls : Array Slot), lv_has ls 9 [(0, .ref (ad 1070))] → W p l e (rmG_T_TO (d + 1)) s m args below meth c0 H locs 0 0 Q (F0 m 107 ls []) := by
          intro  hf H locs hP hS ls hl
          unfold xo_X5_over_TB_J107 at hf
          refine lv_aload_n hx hb dX5_over_107 rfl (lv_at hl 0 rfl) ?_
          refine gx_X5_19_1070 (v := (σ.2.1 1071)) E hX hD hP rfl dX5_over_108 ?_
          refine lv_goto (tgt := 122) hx hb dX5_over_111 (by decide) ?_
          cases hf
          rw [hQ]; exact g_lret hx hb hr hlk hP hS dX5_over_122
        refine lv_if_eq (tgt := 107) hx hb dX5_over_94 (by decide) (fun c18 => ?_) (fun c18 => ?_)
        · have hf := ifT ((lgc_eq _ _).mp c18) hf
          exact J107  hf H locs hP hS ls (lv_sub hl [3] rfl)
        · have hf := ifF (mt (lgc_eq _ _).mpr c18) hf
          refine lv_lload hx hb dX5_over_97 (lv_at hl 0 rfl) ?_
          refine lv_aload_n hx hb dX5_over_99 rfl (lv_at hl 3 rfl) ?_
          refine gx_X5_19_1070 (v := (σ.2.1 1071)) E hX hD hP rfl dX5_over_100 ?_
          refine W.lcmp hx hb dX5_over_103 ?_
          refine lv_if_ne (tgt := 114) hx hb dX5_over_104 (by decide) (fun c19 => ?_) (fun c19 => ?_)
          · have hf := ifF (mt (lgc_eq _ _).mpr c19) hf
            refine lv_aload_n hx hb dX5_over_114 rfl (lv_at hl 3 rfl) ?_
            refine lv_lload hx hb dX5_over_115 (lv_at hl 1 rfl) ?_
            refine lv_lload hx hb dX5_over_117 (lv_at hl 0 rfl) ?_
            obtain ⟨v20, u21, hf⟩ := bdP hf
            refine cx_X5_132_X6_both_TO E hX hD hP hS hA (kxX6_both_TO l D G hD u21) ⟨rfl, rfl⟩ ⟨by dsimp only [rmG_T_TO, rmX6_both_TO]; omega, by dsimp only [rmG_T_TO, rmX6_both_TO]; omega⟩ ⟨Nat.zero_le _, Nat.zero_le _⟩ hl.1 (Nat.le_of_ble_eq_true rfl) dX5_over_119 (fun H locs hP hS => ?_)
            cases hf
            rw [hQ]; exact g_lret hx hb hr hlk hP hS dX5_over_122
          · have hf := ifT ((lgc_eq _ _).mp c19) hf
            exact J107  hf H locs hP hS ls (lv_sub hl [3] rfl)
      · have hf := ifT ((lgc_eq _ _).mp c17) hf
        refine lv_lload hx hb dX5_over_84 (lv_at hl 1 rfl) ?_
        cases hf
        rw [hQ]; exact g_lret hx hb hr hlk hP hS dX5_over_86
    · have hf := ifT ((lgc_eq _ _).mp c12) hf
      refine lv_lload hx hb dX5_over_61 (lv_at hl 0 rfl) ?_
      cases hf
      rw [hQ]; exact g_lret hx hb hr hlk hP hS dX5_over_63
  · have hf := ifT c1 hf
    refine lv_aload_n hx hb dX5_over_4 rfl (lv_at hl 0 rfl) ?_
    refine lv_iload_n hx hb dX5_over_5 rfl (lv_at hl 2 rfl) ?_
    refine lv_iload_n hx hb dX5_over_6 rfl (lv_at hl 3 rfl) ?_
    obtain ⟨v22, u23, hf⟩ := bdP hf
    refine cx_X5_117_X5_arrived_TO E hX hD hP hS hA (hrec_X5_arrived _ rfl rfl rfl rfl rfl rfl rfl rfl u23) ⟨rfl, rfl⟩ ⟨Nat.le_refl _, by dsimp only [rmG_T_TO]; omega⟩ ⟨Nat.zero_le _, Nat.zero_le _⟩ hl.1 (Nat.le_of_ble_eq_true rfl) dX5_over_7 (fun H locs hP hS => ?_)
    cases hf
    rw [hQ]; exact g_lret hx hb hr hlk hP hS dX5_over_10
/-! X5_shown_TO (IIIII)J -/
abbrev rmX5_shown_TO : Room := rmG_T_TO 40
set_option maxHeartbeats 4000000 in
theorem wkX5_shown_TO {x1 : Int32} {x2 : Int32} {x3 : Int32} {x4 : Int32} {x5 : Int32} {r_ : Int64} {d : Nat} {f_X5_over : Int32 → Int32 → Int32 → Option (Int64)} {f_X5_shown : Int32 → Int32 → Int32 → Int32 → Int32 → Option (Int64)} {f_X5_arrived : Int32 → Int32 → Option (Int64)} (hrec_X5_over : ∀ (σ1 : Sto) {x1 : Int32} {x2 : Int32} {x3 : Int32} {r_ : Int64} (_ : σ1.1 1072 = (σ.1 1072)) (_ : σ1.1 2013 = (σ.1 2013)) (_ : σ1.1 2027 = (σ.1 2027)) (_ : σ1.2.1 1071 = (σ.2.1 1071)) (_ : σ1.2.2.1 1170 = (σ.2.2.1 1170)) (_ : σ1.2.2.1 2043 = (σ.2.2.1 2043)) (_ : σ1.2.2.2.1 1143 = (σ.2.2.2.1 1143)) (_ : σ1.2.2.2.1 1151 = (σ.2.2.2.1 1151)), f_X5_over x1 x2 x3 = some r_ → CtG l D G dsc ad yX5_over (ws_ yX5_over cX5_over 9 (Option.some Jvm.ClassFile.FieldType.long)) (rmG_T_TO d) [.ref (ad 1070), .int x1, .int x2, .int x3] σ1 (some (.long r_)) σ1) (hrec_X5_shown : ∀ (σ1 : Sto) {x1 : Int32} {x2 : Int32} {x3 : Int32} {x4 : Int32} {x5 : Int32} {r_ : Int64} (_ : σ1.1 1072 = (σ.1 1072)) (_ : σ1.1 2013 = (σ.1 2013)) (_ : σ1.1 2027 = (σ.1 2027)) (_ : σ1.2.1 1071 = (σ.2.1 1071)) (_ : σ1.2.2.1 1170 = (σ.2.2.1 1170)) (_ : σ1.2.2.1 2043 = (σ.2.2.1 2043)) (_ : σ1.2.2.2.1 1143 = (σ.2.2.2.1 1143)) (_ : σ1.2.2.2.1 1151 = (σ.2.2.2.1 1151)), f_X5_shown x1 x2 x3 x4 x5 = some r_ → CtG l D G dsc ad yX5_shown (ws_ yX5_shown cX5_shown 6 (Option.some Jvm.ClassFile.FieldType.long)) (rmG_T_TO d) [.ref (ad 1070), .int x1, .int x2, .int x3, .int x4, .int x5] σ1 (some (.long r_)) σ1) (hrec_X5_arrived : ∀ (σ1 : Sto) {x1 : Int32} {x2 : Int32} {r_ : Int64} (_ : σ1.1 1072 = (σ.1 1072)) (_ : σ1.1 2013 = (σ.1 2013)) (_ : σ1.1 2027 = (σ.1 2027)) (_ : σ1.2.1 1071 = (σ.2.1 1071)) (_ : σ1.2.2.1 1170 = (σ.2.2.1 1170)) (_ : σ1.2.2.1 2043 = (σ.2.2.1 2043)) (_ : σ1.2.2.2.1 1143 = (σ.2.2.2.1 1143)) (_ : σ1.2.2.2.1 1151 = (σ.2.2.2.1 1151)), f_X5_arrived x1 x2 = some r_ → CtG l D G dsc ad yX5_arrived (ws_ yX5_arrived cX5_arrived 3 (Option.some Jvm.ClassFile.FieldType.long)) (rmG_T_TO d) [.ref (ad 1070), .int x1, .int x2] σ1 (some (.long r_)) σ1) (E : EN p s m args meth c0 RX5 cX5_shown 6 (Option.some Jvm.ClassFile.FieldType.long)) (hX : KX D G ad A s s.heap) (hD : XD dsc nr nw nu) (hA : ∀ q, PA dsc ad s.heap.size q → A q) (hf : xo_X5_shown_TB_B f_X5_over f_X5_shown f_X5_arrived (σ.1 1072) (σ.1 2013) (σ.1 2027) (σ.2.1 1071) (σ.2.2.1 1170) (σ.2.2.1 2043) (σ.2.2.2.1 1143) (σ.2.2.2.1 1151) x1 x2 x3 x4 x5 = some r_) (hQ : Q = MQ below (va_G1 (some (.long r_)) (fun t => PIC D clsA G dsc ad σ t.heap) A) args s 0 0 A) (hP : PIC D clsA G dsc ad σ H) (hS : va_S A s.heap H locs) (hl : lv_has ls 6 [(0, .ref (ad 1070)), (1, .int x1), (2, .int x2), (3, .int x3), (4, .int x4), (5, .int x5)]) : W p l e (rmG_T_TO (d + 1)) s m args below meth c0 H locs 0 0 Q (F0 m 0 ls []) := by
  obtain ⟨⟨hx, hb, hml, hown, hts⟩, hr, hlk⟩ := id E
  unfold xo_X5_shown_TB_B at hf
  refine lv_aload_n hx hb dX5_shown_0 rfl (lv_at hl 0 rfl) ?_
  refine gx_X5_23_1070 (v := (σ.1 1072)) E hX hD hP rfl dX5_shown_1 ?_
  obtain ⟨v1, hv1, hf⟩ := bdP hf
  refine p_nn0 (ckz_some hv1) ?_
  refine gx_X5_46_1055 E hX hD hP dX5_shown_4 ?_
  refine lv_iload hx hb dX5_shown_7 (lv_at hl 5 rfl) ?_
  refine lv_iload_n hx hb dX5_shown_9 rfl (lv_at hl 2 rfl) ?_
  refine lv_iload_n hx hb dX5_shown_10 rfl (lv_at hl 3 rfl) ?_
  obtain ⟨v2, u3, hf⟩ := bdP hf
  refine cx_X5_129_X1_with E hX hD hP hS hA (kxX1_with l D G hD rfl u3) ⟨rfl, rfl⟩ ⟨by dsimp only [rmG_T_TO, rmX1_with]; omega, by dsimp only [rmG_T_TO, rmX1_with]; omega⟩ ⟨Nat.zero_le _, Nat.zero_le _⟩ hl.1 (Nat.le_of_ble_eq_true rfl) dX5_shown_11 (fun H locs hP hS => ?_)
  obtain ⟨v4, hv4, hf⟩ := bdP hf
  refine p_lald hx hb hX.1 hP (hD.1 _ _ dX_1143) rfl hv4 dX5_shown_14 ?_
  refine lv_lconst hx hb dX5_shown_15 lc_0 ?_
  refine W.lcmp hx hb dX5_shown_16 ?_
  refine lv_if_ne (tgt := 27) hx hb dX5_shown_17 (by decide) (fun c5 => ?_) (fun c5 => ?_)
  · have hf := ifF (mt (lgc_eq _ _).mpr c5) hf
    refine lv_aload_n hx hb dX5_shown_27 rfl (lv_at hl 0 rfl) ?_
    refine lv_iload_n hx hb dX5_shown_28 rfl (lv_at hl 1 rfl) ?_
    refine lv_iconst hx hb dX5_shown_29 ic_1 ?_
    refine lv_iload_n hx hb dX5_shown_30 rfl (lv_at hl 2 rfl) ?_
    refine lv_ishl hx hb dX5_shown_31 ?_
    refine lv_iconst hx hb dX5_shown_32 ic_m1 ?_
    refine lv_ixor hx hb dX5_shown_33 ?_
    refine lv_iand hx hb dX5_shown_34 ?_
    refine lv_iload hx hb dX5_shown_35 (lv_at hl 4 rfl) ?_
    refine lv_iload hx hb dX5_shown_37 (lv_at hl 5 rfl) ?_
    refine lv_iload_n hx hb dX5_shown_39 rfl (lv_at hl 2 rfl) ?_
    refine lv_iload_n hx hb dX5_shown_40 rfl (lv_at hl 3 rfl) ?_
    obtain ⟨v6, u7, hf⟩ := bdP hf
    refine cx_X5_129_X1_with E hX hD hP hS hA (kxX1_with l D G hD rfl u7) ⟨rfl, rfl⟩ ⟨by dsimp only [rmG_T_TO, rmX1_with]; omega, by dsimp only [rmG_T_TO, rmX1_with]; omega⟩ ⟨Nat.zero_le _, Nat.zero_le _⟩ hl.1 (Nat.le_of_ble_eq_true rfl) dX5_shown_41 (fun H locs hP hS => ?_)
    obtain ⟨v8, u9, hf⟩ := bdP hf
    refine cx_X5_114_X5_over_TO E hX hD hP hS hA (hrec_X5_over _ rfl rfl rfl rfl rfl rfl rfl rfl u9) ⟨rfl, rfl⟩ ⟨Nat.le_refl _, by dsimp only [rmG_T_TO]; omega⟩ ⟨Nat.zero_le _, Nat.zero_le _⟩ hl.1 (Nat.le_of_ble_eq_true rfl) dX5_shown_44 (fun H locs hP hS => ?_)
    cases hf
    rw [hQ]; exact g_lret hx hb hr hlk hP hS dX5_shown_47
  · have hf := ifT ((lgc_eq _ _).mp c5) hf
    refine lv_aload_n hx hb dX5_shown_20 rfl (lv_at hl 0 rfl) ?_
    refine gx_X5_19_1070 (v := (σ.2.1 1071)) E hX hD hP rfl dX5_shown_21 ?_
    refine lv_goto (tgt := 47) hx hb dX5_shown_24 (by decide) ?_
    cases hf
    rw [hQ]; exact g_lret hx hb hr hlk hP hS dX5_shown_47
/-! X5_arrived_TO (II)J -/
abbrev rmX5_arrived_TO : Room := rmG_T_TO 40
set_option maxHeartbeats 4000000 in
theorem wkX5_arrived_TO {x1 : Int32} {x2 : Int32} {r_ : Int64} {d : Nat} {f_X5_over : Int32 → Int32 → Int32 → Option (Int64)} {f_X5_shown : Int32 → Int32 → Int32 → Int32 → Int32 → Option (Int64)} {f_X5_arrived : Int32 → Int32 → Option (Int64)} (hrec_X5_over : ∀ (σ1 : Sto) {x1 : Int32} {x2 : Int32} {x3 : Int32} {r_ : Int64} (_ : σ1.1 1072 = (σ.1 1072)) (_ : σ1.1 2013 = (σ.1 2013)) (_ : σ1.1 2027 = (σ.1 2027)) (_ : σ1.2.1 1071 = (σ.2.1 1071)) (_ : σ1.2.2.1 1170 = (σ.2.2.1 1170)) (_ : σ1.2.2.1 2043 = (σ.2.2.1 2043)) (_ : σ1.2.2.2.1 1143 = (σ.2.2.2.1 1143)) (_ : σ1.2.2.2.1 1151 = (σ.2.2.2.1 1151)), f_X5_over x1 x2 x3 = some r_ → CtG l D G dsc ad yX5_over (ws_ yX5_over cX5_over 9 (Option.some Jvm.ClassFile.FieldType.long)) (rmG_T_TO d) [.ref (ad 1070), .int x1, .int x2, .int x3] σ1 (some (.long r_)) σ1) (hrec_X5_shown : ∀ (σ1 : Sto) {x1 : Int32} {x2 : Int32} {x3 : Int32} {x4 : Int32} {x5 : Int32} {r_ : Int64} (_ : σ1.1 1072 = (σ.1 1072)) (_ : σ1.1 2013 = (σ.1 2013)) (_ : σ1.1 2027 = (σ.1 2027)) (_ : σ1.2.1 1071 = (σ.2.1 1071)) (_ : σ1.2.2.1 1170 = (σ.2.2.1 1170)) (_ : σ1.2.2.1 2043 = (σ.2.2.1 2043)) (_ : σ1.2.2.2.1 1143 = (σ.2.2.2.1 1143)) (_ : σ1.2.2.2.1 1151 = (σ.2.2.2.1 1151)), f_X5_shown x1 x2 x3 x4 x5 = some r_ → CtG l D G dsc ad yX5_shown (ws_ yX5_shown cX5_shown 6 (Option.some Jvm.ClassFile.FieldType.long)) (rmG_T_TO d) [.ref (ad 1070), .int x1, .int x2, .int x3, .int x4, .int x5] σ1 (some (.long r_)) σ1) (hrec_X5_arrived : ∀ (σ1 : Sto) {x1 : Int32} {x2 : Int32} {r_ : Int64} (_ : σ1.1 1072 = (σ.1 1072)) (_ : σ1.1 2013 = (σ.1 2013)) (_ : σ1.1 2027 = (σ.1 2027)) (_ : σ1.2.1 1071 = (σ.2.1 1071)) (_ : σ1.2.2.1 1170 = (σ.2.2.1 1170)) (_ : σ1.2.2.1 2043 = (σ.2.2.1 2043)) (_ : σ1.2.2.2.1 1143 = (σ.2.2.2.1 1143)) (_ : σ1.2.2.2.1 1151 = (σ.2.2.2.1 1151)), f_X5_arrived x1 x2 = some r_ → CtG l D G dsc ad yX5_arrived (ws_ yX5_arrived cX5_arrived 3 (Option.some Jvm.ClassFile.FieldType.long)) (rmG_T_TO d) [.ref (ad 1070), .int x1, .int x2] σ1 (some (.long r_)) σ1) (E : EN p s m args meth c0 RX5 cX5_arrived 3 (Option.some Jvm.ClassFile.FieldType.long)) (hX : KX D G ad A s s.heap) (hD : XD dsc nr nw nu) (hA : ∀ q, PA dsc ad s.heap.size q → A q) (hf : xo_X5_arrived_TB_B f_X5_over f_X5_shown f_X5_arrived (σ.1 1072) (σ.1 2013) (σ.1 2027) (σ.2.1 1071) (σ.2.2.1 1170) (σ.2.2.1 2043) (σ.2.2.2.1 1143) (σ.2.2.2.1 1151) x1 x2 = some r_) (hQ : Q = MQ below (va_G1 (some (.long r_)) (fun t => PIC D clsA G dsc ad σ t.heap) A) args s 0 0 A) (hP : PIC D clsA G dsc ad σ H) (hS : va_S A s.heap H locs) (hl : lv_has ls 3 [(0, .ref (ad 1070)), (1, .int x1), (2, .int x2)]) : W p l e (rmG_T_TO (d + 1)) s m args below meth c0 H locs 0 0 Q (F0 m 0 ls []) := by
  obtain ⟨⟨hx, hb, hml, hown, hts⟩, hr, hlk⟩ := id E
  unfold xo_X5_arrived_TB_B at hf
  refine lv_iload_n hx hb dX5_arrived_0 rfl (lv_at hl 1 rfl) ?_
  refine lv_aload_n hx hb dX5_arrived_1 rfl (lv_at hl 0 rfl) ?_
  refine gx_X5_3_1070 E hX hD hP dX5_arrived_2 ?_
  refine gx_X5_27_1000 E hX hD hP dX5_arrived_5 ?_
  refine gx_X5_67_2000 (v := (σ.1 2013)) E hX hD hP rfl dX5_arrived_8 ?_
  refine lv_icmp_ne (tgt := 22) hx hb dX5_arrived_11 (by decide) (fun c1 => ?_) (fun c1 => ?_)
  · have hf := ifF c1 hf
    refine lv_aload_n hx hb dX5_arrived_22 rfl (lv_at hl 0 rfl) ?_
    refine gx_X5_3_1070 E hX hD hP dX5_arrived_23 ?_
    refine gx_X5_27_1000 E hX hD hP dX5_arrived_26 ?_
    refine lv_iload_n hx hb dX5_arrived_29 rfl (lv_at hl 1 rfl) ?_
    refine lv_iload_n hx hb dX5_arrived_30 rfl (lv_at hl 2 rfl) ?_
    obtain ⟨v2, u3, hf⟩ := bdP hf
    refine cx_X5_74_X3_unseen E hX hD hP hS hA (kxX3_unseen l D G hD rfl rfl rfl u3) ⟨rfl, rfl⟩ ⟨by dsimp only [rmG_T_TO, rmX3_unseen]; omega, by dsimp only [rmG_T_TO, rmX3_unseen]; omega⟩ ⟨Nat.zero_le _, Nat.zero_le _⟩ hl.1 (Nat.le_of_ble_eq_true rfl) dX5_arrived_31 (fun H locs hP hS => ?_)
    refine lv_if_ne (tgt := 46) hx hb dX5_arrived_34 (by decide) (fun c4 => ?_) (fun c4 => ?_)
    · have hf := ifF c4 hf
      refine lv_aload_n hx hb dX5_arrived_46 rfl (lv_at hl 0 rfl) ?_
      refine lv_aload_n hx hb dX5_arrived_47 rfl (lv_at hl 0 rfl) ?_
      refine gx_X5_3_1070 E hX hD hP dX5_arrived_48 ?_
      refine gx_X5_27_1000 E hX hD hP dX5_arrived_51 ?_
      refine lv_iload_n hx hb dX5_arrived_54 rfl (lv_at hl 1 rfl) ?_
      refine lv_iload_n hx hb dX5_arrived_55 rfl (lv_at hl 2 rfl) ?_
      obtain ⟨v5, u6, hf⟩ := bdP hf
      refine cx_X5_74_X3_unseen E hX hD hP hS hA (kxX3_unseen l D G hD rfl rfl rfl u6) ⟨rfl, rfl⟩ ⟨by dsimp only [rmG_T_TO, rmX3_unseen]; omega, by dsimp only [rmG_T_TO, rmX3_unseen]; omega⟩ ⟨Nat.zero_le _, Nat.zero_le _⟩ hl.1 (Nat.le_of_ble_eq_true rfl) dX5_arrived_56 (fun H locs hP hS => ?_)
      refine lv_iload_n hx hb dX5_arrived_59 rfl (lv_at hl 1 rfl) ?_
      refine lv_iload_n hx hb dX5_arrived_60 rfl (lv_at hl 2 rfl) ?_
      obtain ⟨v7, u8, hf⟩ := bdP hf
      refine cx_X5_114_X5_over_TO E hX hD hP hS hA (hrec_X5_over _ rfl rfl rfl rfl rfl rfl rfl rfl u8) ⟨rfl, rfl⟩ ⟨Nat.le_refl _, by dsimp only [rmG_T_TO]; omega⟩ ⟨Nat.zero_le _, Nat.zero_le _⟩ hl.1 (Nat.le_of_ble_eq_true rfl) dX5_arrived_61 (fun H locs hP hS => ?_)
      cases hf
      rw [hQ]; exact g_lret hx hb hr hlk hP hS dX5_arrived_64
    · have hf := ifT c4 hf
      refine lv_aload_n hx hb dX5_arrived_37 rfl (lv_at hl 0 rfl) ?_
      refine lv_iload_n hx hb dX5_arrived_38 rfl (lv_at hl 1 rfl) ?_
      refine lv_iload_n hx hb dX5_arrived_39 rfl (lv_at hl 2 rfl) ?_
      obtain ⟨v9, u10, hf⟩ := bdP hf
      refine cx_X5_81_X5_value_TO E hX hD hP hS hA (kxX5_value_TO l D G hD rfl u10) ⟨rfl, rfl⟩ ⟨by dsimp only [rmG_T_TO, rmX5_value_TO]; omega, by dsimp only [rmG_T_TO, rmX5_value_TO]; omega⟩ ⟨Nat.zero_le _, Nat.zero_le _⟩ hl.1 (Nat.le_of_ble_eq_true rfl) dX5_arrived_40 (fun H locs hP hS => ?_)
      refine lv_goto (tgt := 64) hx hb dX5_arrived_43 (by decide) ?_
      cases hf
      rw [hQ]; exact g_lret hx hb hr hlk hP hS dX5_arrived_64
  · have hf := ifT c1 hf
    refine lv_aload_n hx hb dX5_arrived_14 rfl (lv_at hl 0 rfl) ?_
    refine lv_iload_n hx hb dX5_arrived_15 rfl (lv_at hl 2 rfl) ?_
    obtain ⟨v11, u12, hf⟩ := bdP hf
    refine cx_X5_70_X6_end_TO E hX hD hP hS hA (kxX6_end_TO l D G hD u12) ⟨rfl, rfl⟩ ⟨by dsimp only [rmG_T_TO, rmX6_end_TO]; omega, by dsimp only [rmG_T_TO, rmX6_end_TO]; omega⟩ ⟨Nat.zero_le _, Nat.zero_le _⟩ hl.1 (Nat.le_of_ble_eq_true rfl) dX5_arrived_16 (fun H locs hP hS => ?_)
    refine lv_goto (tgt := 64) hx hb dX5_arrived_19 (by decide) ?_
    cases hf
    rw [hQ]; exact g_lret hx hb hr hlk hP hS dX5_arrived_64
theorem kg_T_TO (l : Launch) (D : va_G) (G : Nat → ClassId) {dsc : Nat → Option Dsc} {ad : Nat → Nat} {nr nw nu : Nat} (hD : XD dsc nr nw nu) {z_TO_by : Int32} {z_L_to : Int32} {z_Ld_size : Int32} {z_TO_none : Int64} {a_UNIT : Nat → Int32} {a_L_seen : Nat → Int32} {a_O_likely : Nat → Int64} {a_TO_value : Nat → Int64} : ∀ d : Nat, (∀ (σ1 : Sto) {x1 : Int32} {x2 : Int32} {x3 : Int32} {r_ : Int64} (_ : σ1.1 1072 = z_TO_by) (_ : σ1.1 2013 = z_L_to) (_ : σ1.1 2027 = z_Ld_size) (_ : σ1.2.1 1071 = z_TO_none) (_ : σ1.2.2.1 1170 = a_UNIT) (_ : σ1.2.2.1 2043 = a_L_seen) (_ : σ1.2.2.2.1 1143 = a_O_likely) (_ : σ1.2.2.2.1 1151 = a_TO_value), (xg_T_TB z_TO_by z_L_to z_Ld_size z_TO_none a_UNIT a_L_seen a_O_likely a_TO_value d).1 x1 x2 x3 = some r_ → CtG l D G dsc ad yX5_over (ws_ yX5_over cX5_over 9 (Option.some Jvm.ClassFile.FieldType.long)) (rmG_T_TO d) [.ref (ad 1070), .int x1, .int x2, .int x3] σ1 (some (.long r_)) σ1) ∧ (∀ (σ1 : Sto) {x1 : Int32} {x2 : Int32} {x3 : Int32} {x4 : Int32} {x5 : Int32} {r_ : Int64} (_ : σ1.1 1072 = z_TO_by) (_ : σ1.1 2013 = z_L_to) (_ : σ1.1 2027 = z_Ld_size) (_ : σ1.2.1 1071 = z_TO_none) (_ : σ1.2.2.1 1170 = a_UNIT) (_ : σ1.2.2.1 2043 = a_L_seen) (_ : σ1.2.2.2.1 1143 = a_O_likely) (_ : σ1.2.2.2.1 1151 = a_TO_value), (xg_T_TB z_TO_by z_L_to z_Ld_size z_TO_none a_UNIT a_L_seen a_O_likely a_TO_value d).2.1 x1 x2 x3 x4 x5 = some r_ → CtG l D G dsc ad yX5_shown (ws_ yX5_shown cX5_shown 6 (Option.some Jvm.ClassFile.FieldType.long)) (rmG_T_TO d) [.ref (ad 1070), .int x1, .int x2, .int x3, .int x4, .int x5] σ1 (some (.long r_)) σ1) ∧ (∀ (σ1 : Sto) {x1 : Int32} {x2 : Int32} {r_ : Int64} (_ : σ1.1 1072 = z_TO_by) (_ : σ1.1 2013 = z_L_to) (_ : σ1.1 2027 = z_Ld_size) (_ : σ1.2.1 1071 = z_TO_none) (_ : σ1.2.2.1 1170 = a_UNIT) (_ : σ1.2.2.1 2043 = a_L_seen) (_ : σ1.2.2.2.1 1143 = a_O_likely) (_ : σ1.2.2.2.1 1151 = a_TO_value), (xg_T_TB z_TO_by z_L_to z_Ld_size z_TO_none a_UNIT a_L_seen a_O_likely a_TO_value d).2.2 x1 x2 = some r_ → CtG l D G dsc ad yX5_arrived (ws_ yX5_arrived cX5_arrived 3 (Option.some Jvm.ClassFile.FieldType.long)) (rmG_T_TO d) [.ref (ad 1070), .int x1, .int x2] σ1 (some (.long r_)) σ1) := by
  intro d
  induction d with
  | zero =>
    refine ⟨?_, ?_, ?_⟩ <;> (intros; rename_i hu; simp [xg_T_TB] at hu)
  | succ d ih =>
    refine ⟨?_, ?_, ?_⟩
    · intro σ x1 x2 x3 r_ e_zI1072 e_zI2013 e_zI2027 e_zL1071 e_aI1170 e_aI2043 e_aL1143 e_aL1151 hu
      subst e_zI1072
      subst e_zI2013
      subst e_zI2027
      subst e_zL1071
      subst e_aI1170
      subst e_aI2043
      subst e_aL1143
      subst e_aL1151
      exact p_ctG (by decide +kernel) (Nat.le_of_ble_eq_true rfl) (fun p e s m below meth c0 ls A E hP hX hA hS hl => wkX5_over_TO ih.1 ih.2.1 ih.2.2 E hX hD hA hu rfl hP hS hl)
    · intro σ x1 x2 x3 x4 x5 r_ e_zI1072 e_zI2013 e_zI2027 e_zL1071 e_aI1170 e_aI2043 e_aL1143 e_aL1151 hu
      subst e_zI1072
      subst e_zI2013
      subst e_zI2027
      subst e_zL1071
      subst e_aI1170
      subst e_aI2043
      subst e_aL1143
      subst e_aL1151
      exact p_ctG (by decide +kernel) (Nat.le_of_ble_eq_true rfl) (fun p e s m below meth c0 ls A E hP hX hA hS hl => wkX5_shown_TO ih.1 ih.2.1 ih.2.2 E hX hD hA hu rfl hP hS hl)
    · intro σ x1 x2 r_ e_zI1072 e_zI2013 e_zI2027 e_zL1071 e_aI1170 e_aI2043 e_aL1143 e_aL1151 hu
      subst e_zI1072
      subst e_zI2013
      subst e_zI2027
      subst e_zL1071
      subst e_aI1170
      subst e_aI2043
      subst e_aL1143
      subst e_aL1151
      exact p_ctG (by decide +kernel) (Nat.le_of_ble_eq_true rfl) (fun p e s m below meth c0 ls A E hP hX hA hS hl => wkX5_arrived_TO ih.1 ih.2.1 ih.2.2 E hX hD hA hu rfl hP hS hl)
theorem kxX5_over_TO (l : Launch) (D : va_G) (G : Nat → ClassId) {dsc : Nat → Option Dsc} {ad : Nat → Nat} {σ : Sto} {nr nw nu : Nat} (hD : XD dsc nr nw nu) {x1 : Int32} {x2 : Int32} {x3 : Int32} {r_ : Int64} {z_TO_by : Int32} (e_zI1072 : σ.1 1072 = z_TO_by) {z_L_to : Int32} (e_zI2013 : σ.1 2013 = z_L_to) {z_Ld_size : Int32} (e_zI2027 : σ.1 2027 = z_Ld_size) {z_TO_none : Int64} (e_zL1071 : σ.2.1 1071 = z_TO_none) {a_UNIT : Nat → Int32} (e_aI1170 : σ.2.2.1 1170 = a_UNIT) {a_L_seen : Nat → Int32} (e_aI2043 : σ.2.2.1 2043 = a_L_seen) {a_O_likely : Nat → Int64} (e_aL1143 : σ.2.2.2.1 1143 = a_O_likely) {a_TO_value : Nat → Int64} (e_aL1151 : σ.2.2.2.1 1151 = a_TO_value) (hf : (xg_T_TB z_TO_by z_L_to z_Ld_size z_TO_none a_UNIT a_L_seen a_O_likely a_TO_value 40).1 x1 x2 x3 = some r_) : CtG l D G dsc ad yX5_over (ws_ yX5_over cX5_over 9 (Option.some Jvm.ClassFile.FieldType.long)) rmX5_over_TO [.ref (ad 1070), .int x1, .int x2, .int x3] σ (some (.long r_)) σ :=
  (kg_T_TO l D G hD 40).1 σ e_zI1072 e_zI2013 e_zI2027 e_zL1071 e_aI1170 e_aI2043 e_aL1143 e_aL1151 hf
theorem kxX5_shown_TO (l : Launch) (D : va_G) (G : Nat → ClassId) {dsc : Nat → Option Dsc} {ad : Nat → Nat} {σ : Sto} {nr nw nu : Nat} (hD : XD dsc nr nw nu) {x1 : Int32} {x2 : Int32} {x3 : Int32} {x4 : Int32} {x5 : Int32} {r_ : Int64} {z_TO_by : Int32} (e_zI1072 : σ.1 1072 = z_TO_by) {z_L_to : Int32} (e_zI2013 : σ.1 2013 = z_L_to) {z_Ld_size : Int32} (e_zI2027 : σ.1 2027 = z_Ld_size) {z_TO_none : Int64} (e_zL1071 : σ.2.1 1071 = z_TO_none) {a_UNIT : Nat → Int32} (e_aI1170 : σ.2.2.1 1170 = a_UNIT) {a_L_seen : Nat → Int32} (e_aI2043 : σ.2.2.1 2043 = a_L_seen) {a_O_likely : Nat → Int64} (e_aL1143 : σ.2.2.2.1 1143 = a_O_likely) {a_TO_value : Nat → Int64} (e_aL1151 : σ.2.2.2.1 1151 = a_TO_value) (hf : (xg_T_TB z_TO_by z_L_to z_Ld_size z_TO_none a_UNIT a_L_seen a_O_likely a_TO_value 40).2.1 x1 x2 x3 x4 x5 = some r_) : CtG l D G dsc ad yX5_shown (ws_ yX5_shown cX5_shown 6 (Option.some Jvm.ClassFile.FieldType.long)) rmX5_shown_TO [.ref (ad 1070), .int x1, .int x2, .int x3, .int x4, .int x5] σ (some (.long r_)) σ :=
  (kg_T_TO l D G hD 40).2.1 σ e_zI1072 e_zI2013 e_zI2027 e_zL1071 e_aI1170 e_aI2043 e_aL1143 e_aL1151 hf
theorem kxX5_arrived_TO (l : Launch) (D : va_G) (G : Nat → ClassId) {dsc : Nat → Option Dsc} {ad : Nat → Nat} {σ : Sto} {nr nw nu : Nat} (hD : XD dsc nr nw nu) {x1 : Int32} {x2 : Int32} {r_ : Int64} {z_TO_by : Int32} (e_zI1072 : σ.1 1072 = z_TO_by) {z_L_to : Int32} (e_zI2013 : σ.1 2013 = z_L_to) {z_Ld_size : Int32} (e_zI2027 : σ.1 2027 = z_Ld_size) {z_TO_none : Int64} (e_zL1071 : σ.2.1 1071 = z_TO_none) {a_UNIT : Nat → Int32} (e_aI1170 : σ.2.2.1 1170 = a_UNIT) {a_L_seen : Nat → Int32} (e_aI2043 : σ.2.2.1 2043 = a_L_seen) {a_O_likely : Nat → Int64} (e_aL1143 : σ.2.2.2.1 1143 = a_O_likely) {a_TO_value : Nat → Int64} (e_aL1151 : σ.2.2.2.1 1151 = a_TO_value) (hf : (xg_T_TB z_TO_by z_L_to z_Ld_size z_TO_none a_UNIT a_L_seen a_O_likely a_TO_value 40).2.2 x1 x2 = some r_) : CtG l D G dsc ad yX5_arrived (ws_ yX5_arrived cX5_arrived 3 (Option.some Jvm.ClassFile.FieldType.long)) rmX5_arrived_TO [.ref (ad 1070), .int x1, .int x2] σ (some (.long r_)) σ :=
  (kg_T_TO l D G hD 40).2.2 σ e_zI1072 e_zI2013 e_zI2027 e_zL1071 e_aI1170 e_aI2043 e_aL1143 e_aL1151 hf
/-! X5_arriving_TO (II)J -/
abbrev rmX5_arriving_TO : Room := { frames := 43, cells := 0, slots := 0, locals := 1193 }
set_option maxHeartbeats 4000000 in
theorem wkX5_arriving_TO {x1 : Int32} {x2 : Int32} {r_ : Int64} (E : EN p s m args meth c0 RX5 cX5_arriving 3 (Option.some Jvm.ClassFile.FieldType.long)) (hX : KX D G ad A s s.heap) (hD : XD dsc nr nw nu) (hA : ∀ q, PA dsc ad s.heap.size q → A q) (hf : xo_X5_arriving_TB (σ.1 1072) (σ.1 2013) (σ.1 2027) (σ.2.1 1071) (σ.2.2.1 1170) (σ.2.2.1 2043) (σ.2.2.2.1 1143) (σ.2.2.2.1 1151) x1 x2 = some r_) (hQ : Q = MQ below (va_G1 (some (.long r_)) (fun t => PIC D clsA G dsc ad σ t.heap) A) args s 0 0 A) (hP : PIC D clsA G dsc ad σ H) (hS : va_S A s.heap H locs) (hl : lv_has ls 3 [(0, .ref (ad 1070)), (1, .int x1), (2, .int x2)]) : W p l e rmX5_arriving_TO s m args below meth c0 H locs 0 0 Q (F0 m 0 ls []) := by
  obtain ⟨⟨hx, hb, hml, hown, hts⟩, hr, hlk⟩ := id E
  unfold xo_X5_arriving_TB at hf
  refine lv_iload_n hx hb dX5_arriving_0 rfl (lv_at hl 1 rfl) ?_
  refine lv_aload_n hx hb dX5_arriving_1 rfl (lv_at hl 0 rfl) ?_
  refine gx_X5_3_1070 E hX hD hP dX5_arriving_2 ?_
  refine gx_X5_27_1000 E hX hD hP dX5_arriving_5 ?_
  refine gx_X5_67_2000 (v := (σ.1 2013)) E hX hD hP rfl dX5_arriving_8 ?_
  refine lv_icmp_ne (tgt := 22) hx hb dX5_arriving_11 (by decide) (fun c1 => ?_) (fun c1 => ?_)
  · have hf := ifF c1 hf
    refine lv_aload_n hx hb dX5_arriving_22 rfl (lv_at hl 0 rfl) ?_
    refine lv_aload_n hx hb dX5_arriving_23 rfl (lv_at hl 0 rfl) ?_
    refine gx_X5_3_1070 E hX hD hP dX5_arriving_24 ?_
    refine gx_X5_27_1000 E hX hD hP dX5_arriving_27 ?_
    refine lv_iload_n hx hb dX5_arriving_30 rfl (lv_at hl 1 rfl) ?_
    refine lv_iload_n hx hb dX5_arriving_31 rfl (lv_at hl 2 rfl) ?_
    obtain ⟨v2, u3, hf⟩ := bdP hf
    refine cx_X5_74_X3_unseen E hX hD hP hS hA (kxX3_unseen l D G hD rfl rfl rfl u3) ⟨rfl, rfl⟩ ⟨Nat.le_of_ble_eq_true rfl, Nat.le_of_ble_eq_true rfl⟩ ⟨Nat.zero_le _, Nat.zero_le _⟩ hl.1 (Nat.le_of_ble_eq_true rfl) dX5_arriving_32 (fun H locs hP hS => ?_)
    refine lv_iload_n hx hb dX5_arriving_35 rfl (lv_at hl 1 rfl) ?_
    refine lv_iload_n hx hb dX5_arriving_36 rfl (lv_at hl 2 rfl) ?_
    obtain ⟨v4, u5, hf⟩ := bdP hf
    refine cx_X5_114_X5_over_TO E hX hD hP hS hA (kxX5_over_TO l D G hD rfl rfl rfl rfl rfl rfl rfl rfl u5) ⟨rfl, rfl⟩ ⟨Nat.le_of_ble_eq_true rfl, Nat.le_of_ble_eq_true rfl⟩ ⟨Nat.zero_le _, Nat.zero_le _⟩ hl.1 (Nat.le_of_ble_eq_true rfl) dX5_arriving_37 (fun H locs hP hS => ?_)
    cases hf
    rw [hQ]; exact g_lret hx hb hr hlk hP hS dX5_arriving_40
  · have hf := ifT c1 hf
    refine lv_aload_n hx hb dX5_arriving_14 rfl (lv_at hl 0 rfl) ?_
    refine lv_iload_n hx hb dX5_arriving_15 rfl (lv_at hl 2 rfl) ?_
    obtain ⟨v6, u7, hf⟩ := bdP hf
    refine cx_X5_70_X6_end_TO E hX hD hP hS hA (kxX6_end_TO l D G hD u7) ⟨rfl, rfl⟩ ⟨Nat.le_of_ble_eq_true rfl, Nat.le_of_ble_eq_true rfl⟩ ⟨Nat.zero_le _, Nat.zero_le _⟩ hl.1 (Nat.le_of_ble_eq_true rfl) dX5_arriving_16 (fun H locs hP hS => ?_)
    refine lv_goto (tgt := 40) hx hb dX5_arriving_19 (by decide) ?_
    cases hf
    rw [hQ]; exact g_lret hx hb hr hlk hP hS dX5_arriving_40
theorem kxX5_arriving_TO (l : Launch) (D : va_G) (G : Nat → ClassId) {dsc : Nat → Option Dsc} {ad : Nat → Nat} {σ : Sto} {nr nw nu : Nat} (hD : XD dsc nr nw nu) {x1 : Int32} {x2 : Int32} {r_ : Int64} {z_TO_by : Int32} (e_zI1072 : σ.1 1072 = z_TO_by) {z_L_to : Int32} (e_zI2013 : σ.1 2013 = z_L_to) {z_Ld_size : Int32} (e_zI2027 : σ.1 2027 = z_Ld_size) {z_TO_none : Int64} (e_zL1071 : σ.2.1 1071 = z_TO_none) {a_UNIT : Nat → Int32} (e_aI1170 : σ.2.2.1 1170 = a_UNIT) {a_L_seen : Nat → Int32} (e_aI2043 : σ.2.2.1 2043 = a_L_seen) {a_O_likely : Nat → Int64} (e_aL1143 : σ.2.2.2.1 1143 = a_O_likely) {a_TO_value : Nat → Int64} (e_aL1151 : σ.2.2.2.1 1151 = a_TO_value) (hf : xo_X5_arriving_TB z_TO_by z_L_to z_Ld_size z_TO_none a_UNIT a_L_seen a_O_likely a_TO_value x1 x2 = some r_) : CtG l D G dsc ad yX5_arriving (ws_ yX5_arriving cX5_arriving 3 (Option.some Jvm.ClassFile.FieldType.long)) rmX5_arriving_TO [.ref (ad 1070), .int x1, .int x2] σ (some (.long r_)) σ := by
  subst e_zI1072
  subst e_zI2013
  subst e_zI2027
  subst e_zL1071
  subst e_aI1170
  subst e_aI2043
  subst e_aL1143
  subst e_aL1151
  exact p_ctG (by decide +kernel) (Nat.le_of_ble_eq_true rfl) (fun p e s m below meth c0 ls A E hP hX hA hS hl => wkX5_arriving_TO E hX hD hA hf rfl hP hS hl)
theorem gx_X6_17_1070 {v : Int32} (E : EN p s m args meth c0 RX6 cc nL ret) (hX : KX D G ad A s s.heap) (hD : XD dsc nr nw nu) (hP : PIC D clsA G dsc ad σ H) (hv : σ.1 1072 = v) (hdg : decode cc pc = .ok (.getfield 17, 3)) (kk : W p l e R s m args below meth c0 H locs cells slots Q (F0 m (pc + 3) ls (va_rf (drf ad 1055 v) :: rest))) : W p l e R s m args below meth c0 H locs cells slots Q (F0 m pc ls (.ref (ad 1070) :: rest)) :=
  p_get E.1.1 E.1.2.1 E.1.2.2.2.2 in_X6 E.1.2.2.2.1 hX.1 hP (hD.1 _ _ dX_1070) rfl 2 (by decide) (E.1.2.2.2.2 _ q361) (fun x h => u_same (E.1.2.2.2.2 _ q362) x h) rfl (congrArg (fun z => va_rf (drf ad 1055 z)) hv) hdg kk
theorem gx_X6_21_1055 (E : EN p s m args meth c0 RX6 cc nL ret) (hX : KX D G ad A s s.heap) (hD : XD dsc nr nw nu) (hP : PIC D clsA G dsc ad σ H) (hdg : decode cc pc = .ok (.getfield 21, 3)) (kk : W p l e R s m args below meth c0 H locs cells slots Q (F0 m (pc + 3) ls (.ref (ad 1143) :: rest))) : W p l e R s m args below meth c0 H locs cells slots Q (F0 m pc ls (.ref (ad 1055) :: rest)) :=
  p_getN E.1.1 E.1.2.1 E.1.2.2.2.2 in_X4 E.1.2.2.2.1 hX.1 hP (hD.1 _ _ dX_1055) rfl 1 (by decide) (hX.2.1.1 _ q328 rfl) (fun _ h => h) rfl rfl hdg kk
/-! X6_ahead_TO (JII)J -/
abbrev rmX6_ahead_TO : Room := { frames := 0, cells := 0, slots := 0, locals := 0 }
set_option maxHeartbeats 4000000 in
theorem wkX6_ahead_TO {x1 : Int64} {x3 : Int32} {x4 : Int32} {r_ : Int64} (E : EN p s m args meth c0 RX6 cX6_ahead 5 (Option.some Jvm.ClassFile.FieldType.long)) (hX : KX D G ad A s s.heap) (hD : XD dsc nr nw nu) (hA : ∀ q, PA dsc ad s.heap.size q → A q) (hf : xo_X6_ahead_TB (σ.1 1072) (σ.2.2.2.1 1143) x1 x3 x4 = some r_) (hQ : Q = MQ below (va_G1 (some (.long r_)) (fun t => PIC D clsA G dsc ad σ t.heap) A) args s 0 0 A) (hP : PIC D clsA G dsc ad σ H) (hS : va_S A s.heap H locs) (hl : lv_has ls 5 [(0, .ref (ad 1070)), (1, .long x1), (3, .int x3), (4, .int x4)]) : W p l e rmX6_ahead_TO s m args below meth c0 H locs 0 0 Q (F0 m 0 ls []) := by
  obtain ⟨⟨hx, hb, hml, hown, hts⟩, hr, hlk⟩ := id E
  unfold xo_X6_ahead_TB at hf
  refine lv_lload_n hx hb dX6_ahead_0 rfl (lv_at hl 1 rfl) ?_
  refine lv_aload_n hx hb dX6_ahead_1 rfl (lv_at hl 0 rfl) ?_
  refine gx_X6_17_1070 (v := (σ.1 1072)) E hX hD hP rfl dX6_ahead_2 ?_
  obtain ⟨v1, hv1, hf⟩ := bdP hf
  refine p_nn0 (ckz_some hv1) ?_
  refine gx_X6_21_1055 E hX hD hP dX6_ahead_5 ?_
  refine lv_iload hx hb dX6_ahead_8 (lv_at hl 3 rfl) ?_
  obtain ⟨v2, hv2, hf⟩ := bdP hf
  refine p_lald hx hb hX.1 hP (hD.1 _ _ dX_1143) rfl hv2 dX6_ahead_10 ?_
  refine lv_iload_n hx hb dX6_ahead_11 rfl (lv_at hl 2 rfl) ?_
  refine lv_i2l hx hb dX6_ahead_12 rfl ?_
  refine lv_lmul hx hb dX6_ahead_13 ?_
  refine lv_ladd hx hb dX6_ahead_14 ?_
  cases hf
  rw [hQ]; exact g_lret hx hb hr hlk hP hS dX6_ahead_15
theorem kxX6_ahead_TO (l : Launch) (D : va_G) (G : Nat → ClassId) {dsc : Nat → Option Dsc} {ad : Nat → Nat} {σ : Sto} {nr nw nu : Nat} (hD : XD dsc nr nw nu) {x1 : Int64} {x3 : Int32} {x4 : Int32} {r_ : Int64} {z_TO_by : Int32} (e_zI1072 : σ.1 1072 = z_TO_by) {a_O_likely : Nat → Int64} (e_aL1143 : σ.2.2.2.1 1143 = a_O_likely) (hf : xo_X6_ahead_TB z_TO_by a_O_likely x1 x3 x4 = some r_) : CtG l D G dsc ad yX6_ahead (ws_ yX6_ahead cX6_ahead 5 (Option.some Jvm.ClassFile.FieldType.long)) rmX6_ahead_TO [.ref (ad 1070), .long x1, .int x3, .int x4] σ (some (.long r_)) σ := by
  subst e_zI1072
  subst e_aL1143
  exact p_ctG (by decide +kernel) (Nat.le_of_ble_eq_true rfl) (fun p e s m below meth c0 ls A E hP hX hA hS hl => wkX6_ahead_TO E hX hD hA hf rfl hP hS hl)
theorem cx_X5_107_X5_arriving_TO {rm : Room} {σ1 : Sto} {x1 : Int32} {x2 : Int32} {r : Int64} (E : EN p s m args meth c0 RX5 cc nL ret) (hX : KX D G ad A s s.heap) (hD : XD dsc nr nw nu) (hP : PIC D clsA G dsc ad σ H) (hS : va_S A s.heap H locs) (hA : ∀ q, PA dsc ad s.heap.size q → A q) (hM : CtG l D G dsc ad yX5_arriving (ws_ yX5_arriving cX5_arriving 3 (Option.some Jvm.ClassFile.FieldType.long)) rm [.ref (ad 1070), .int x1, .int x2] σ (some (.long r)) σ1) (hz : rm.cells = 0 ∧ rm.slots = 0) (hR : rm.frames + 1 ≤ R.frames ∧ 8 + (3 + 11) + rm.locals ≤ R.locals) (hcs : cells ≤ R.cells ∧ slots ≤ R.slots) (hsz : ls.size = nL) (hW : (rest.map fun v => v.category).sum ≤ 8) (hdg : decode cc pc = .ok (.invokevirtual 107, 3)) (kk : ∀ (H1 : Heap) (locs1 : List Loc), PIC D clsA G dsc ad σ1 H1 → va_S A s.heap H1 locs1 → W p l e R s m args below meth c0 H1 locs1 cells slots Q (F0 m (pc + 3) ls (.long r :: rest))) : W p l e R s m args below meth c0 H locs cells slots Q (F0 m pc ls (.int x2 :: .int x1 :: .ref (ad 1070) :: rest)) :=
  p_gU (As := [.int x1, .int x2]) (rest := rest) E.1 hX hP hS hA hM (cw_any (owner := "ShutPasses$Table") (x := ⟨"ShutPasses$Table", "arriving", "(II)J"⟩) (y := yX5_arriving) (C := "ShutPasses$InMean") (index := 107) (own := RX5) 2 E.1.2.2.2.2 (lw_meth q1117) rfl hz.1 hz.2 (E.1.2.2.2.2 _ q1111) (E.1.2.2.2.2 _ q1113) (va_Decl.of (E.1.2.2.2.2 _ q1112) (E.1.2.2.2.2 _ q1117)) (E.1.2.2.2.2 _ q1115) (E.1.2.2.2.2 _ q1112) (E.1.2.2.2.2 _ q131) (by decide +kernel) hR) (hD.1 _ _ dX_1070) rfl rfl rfl hsz rfl hW hdg hcs kk
theorem cx_X5_110_X6_ahead_TO {rm : Room} {σ1 : Sto} {x1 : Int64} {x3 : Int32} {x4 : Int32} {r : Int64} (E : EN p s m args meth c0 RX5 cc nL ret) (hX : KX D G ad A s s.heap) (hD : XD dsc nr nw nu) (hP : PIC D clsA G dsc ad σ H) (hS : va_S A s.heap H locs) (hA : ∀ q, PA dsc ad s.heap.size q → A q) (hM : CtG l D G dsc ad yX6_ahead (ws_ yX6_ahead cX6_ahead 5 (Option.some Jvm.ClassFile.FieldType.long)) rm [.ref (ad 1070), .long x1, .int x3, .int x4] σ (some (.long r)) σ1) (hz : rm.cells = 0 ∧ rm.slots = 0) (hR : rm.frames + 1 ≤ R.frames ∧ 8 + (5 + 11) + rm.locals ≤ R.locals) (hcs : cells ≤ R.cells ∧ slots ≤ R.slots) (hsz : ls.size = nL) (hW : (rest.map fun v => v.category).sum ≤ 8) (hdg : decode cc pc = .ok (.invokevirtual 110, 3)) (kk : ∀ (H1 : Heap) (locs1 : List Loc), PIC D clsA G dsc ad σ1 H1 → va_S A s.heap H1 locs1 → W p l e R s m args below meth c0 H1 locs1 cells slots Q (F0 m (pc + 3) ls (.long r :: rest))) : W p l e R s m args below meth c0 H locs cells slots Q (F0 m pc ls (.int x4 :: .int x3 :: .long x1 :: .ref (ad 1070) :: rest)) :=
  p_gU (As := [.long x1, .int x3, .int x4]) (rest := rest) E.1 hX hP hS hA hM (cw_any (owner := "ShutPasses$Table") (x := ⟨"ShutPasses$Table", "ahead", "(JII)J"⟩) (y := yX6_ahead) (C := "ShutPasses$InMean") (index := 110) (own := RX5) 3 E.1.2.2.2.2 (lw_meth q1163) rfl hz.1 hz.2 (E.1.2.2.2.2 _ q1155) (E.1.2.2.2.2 _ q1157) (va_Decl.abs (hX.2.1.1 _ q1156 rfl)) (E.1.2.2.2.2 _ q1161) (E.1.2.2.2.2 _ q1162) (E.1.2.2.2.2 _ q132) (by decide +kernel) hR) (hD.1 _ _ dX_1070) rfl rfl rfl hsz rfl hW hdg hcs kk
/-! X5_going_TO (III)J -/
abbrev rmX5_going_TO : Room := { frames := 44, cells := 0, slots := 0, locals := 1215 }
set_option maxHeartbeats 4000000 in
theorem wkX5_going_TO {x1 : Int32} {x2 : Int32} {x3 : Int32} {r_ : Int64} (E : EN p s m args meth c0 RX5 cX5_going 7 (Option.some Jvm.ClassFile.FieldType.long)) (hX : KX D G ad A s s.heap) (hD : XD dsc nr nw nu) (hA : ∀ q, PA dsc ad s.heap.size q → A q) (hf : xo_X5_going_TB (σ.1 1072) (σ.1 2013) (σ.1 2027) (σ.2.1 1071) (σ.2.2.1 1170) (σ.2.2.1 2043) (σ.2.2.2.1 1143) (σ.2.2.2.1 1151) nr (fun k => σ.1 (6000 + 16 * k + 2)) (fun k => σ.1 (6000 + 16 * k + 5)) (fun k => σ.1 (6000 + 16 * k + 6)) (fun k => σ.2.2.1 (4000 + 16 * k)) x1 x2 x3 = some r_) (hQ : Q = MQ below (va_G1 (some (.long r_)) (fun t => PIC D clsA G dsc ad σ t.heap) A) args s 0 0 A) (hP : PIC D clsA G dsc ad σ H) (hS : va_S A s.heap H locs) (hl : lv_has ls 7 [(0, .ref (ad 1070)), (1, .int x1), (2, .int x2), (3, .int x3)]) : W p l e rmX5_going_TO s m args below meth c0 H locs 0 0 Q (F0 m 0 ls []) := by
  obtain ⟨⟨hx, hb, hml, hown, hts⟩, hr, hlk⟩ := id E
  unfold xo_X5_going_TB at hf
  refine lv_aload_n hx hb dX5_going_0 rfl (lv_at hl 0 rfl) ?_
  refine gx_X5_3_1070 E hX hD hP dX5_going_1 ?_
  refine gx_X5_27_1000 E hX hD hP dX5_going_4 ?_
  refine lv_iload_n hx hb dX5_going_7 rfl (lv_at hl 1 rfl) ?_
  refine lv_iload_n hx hb dX5_going_8 rfl (lv_at hl 2 rfl) ?_
  refine lv_iload_n hx hb dX5_going_9 rfl (lv_at hl 3 rfl) ?_
  obtain ⟨v1, u2, hf⟩ := bdP hf
  refine cx_X5_102_X3_cost E hX hD hP hS hA (kxX3_cost l D G hD rfl rfl rfl rfl rfl rfl u2) ⟨rfl, rfl⟩ ⟨Nat.le_of_ble_eq_true rfl, Nat.le_of_ble_eq_true rfl⟩ ⟨Nat.zero_le _, Nat.zero_le _⟩ hl.1 (Nat.le_of_ble_eq_true rfl) dX5_going_10 (fun H locs hP hS => ?_)
  refine lv_istore (lv' := [(4, .int v1), (0, .ref (ad 1070)), (1, .int x1), (2, .int x2), (3, .int x3)]) hx hb dX5_going_13 hl (by decide) rfl (fun ls hl => ?_)
  refine lv_iload hx hb dX5_going_15 (lv_at hl 0 rfl) ?_
  refine lv_ldc hx hb hown (hts _ q1110) dX5_going_17 ?_
  refine lv_icmp_ne (tgt := 27) hx hb dX5_going_19 (by decide) (fun c3 => ?_) (fun c3 => ?_)
  · have hf := ifF c3 hf
    refine lv_aload_n hx hb dX5_going_27 rfl (lv_at hl 1 rfl) ?_
    refine lv_iload_n hx hb dX5_going_28 rfl (lv_at hl 3 rfl) ?_
    refine lv_iload_n hx hb dX5_going_29 rfl (lv_at hl 4 rfl) ?_
    obtain ⟨v4, u5, hf⟩ := bdP hf
    refine cx_X5_107_X5_arriving_TO E hX hD hP hS hA (kxX5_arriving_TO l D G hD rfl rfl rfl rfl rfl rfl rfl rfl u5) ⟨rfl, rfl⟩ ⟨Nat.le_of_ble_eq_true rfl, Nat.le_of_ble_eq_true rfl⟩ ⟨Nat.zero_le _, Nat.zero_le _⟩ hl.1 (Nat.le_of_ble_eq_true rfl) dX5_going_30 (fun H locs hP hS => ?_)
    refine lv_lstore (lv' := [(5, .long v4), (4, .int v1), (0, .ref (ad 1070)), (1, .int x1), (2, .int x2), (3, .int x3)]) hx hb dX5_going_33 hl (by decide) rfl (fun ls hl => ?_)
    refine lv_lload hx hb dX5_going_35 (lv_at hl 0 rfl) ?_
    refine lv_aload_n hx hb dX5_going_37 rfl (lv_at hl 2 rfl) ?_
    refine gx_X5_19_1070 (v := (σ.2.1 1071)) E hX hD hP rfl dX5_going_38 ?_
    refine W.lcmp hx hb dX5_going_41 ?_
    refine lv_if_ne (tgt := 52) hx hb dX5_going_42 (by decide) (fun c6 => ?_) (fun c6 => ?_)
    · have hf := ifF (mt (lgc_eq _ _).mpr c6) hf
      refine lv_aload_n hx hb dX5_going_52 rfl (lv_at hl 2 rfl) ?_
      refine lv_lload hx hb dX5_going_53 (lv_at hl 0 rfl) ?_
      refine lv_iload hx hb dX5_going_55 (lv_at hl 1 rfl) ?_
      refine lv_iload_n hx hb dX5_going_57 rfl (lv_at hl 5 rfl) ?_
      obtain ⟨v7, u8, hf⟩ := bdP hf
      refine cx_X5_110_X6_ahead_TO E hX hD hP hS hA (kxX6_ahead_TO l D G hD rfl rfl u8) ⟨rfl, rfl⟩ ⟨Nat.le_of_ble_eq_true rfl, Nat.le_of_ble_eq_true rfl⟩ ⟨Nat.zero_le _, Nat.zero_le _⟩ hl.1 (Nat.le_of_ble_eq_true rfl) dX5_going_58 (fun H locs hP hS => ?_)
      cases hf
      rw [hQ]; exact g_lret hx hb hr hlk hP hS dX5_going_61
    · have hf := ifT ((lgc_eq _ _).mp c6) hf
      refine lv_aload_n hx hb dX5_going_45 rfl (lv_at hl 2 rfl) ?_
      refine gx_X5_19_1070 (v := (σ.2.1 1071)) E hX hD hP rfl dX5_going_46 ?_
      refine lv_goto (tgt := 61) hx hb dX5_going_49 (by decide) ?_
      cases hf
      rw [hQ]; exact g_lret hx hb hr hlk hP hS dX5_going_61
  · have hf := ifT c3 hf
    refine lv_aload_n hx hb dX5_going_22 rfl (lv_at hl 1 rfl) ?_
    refine gx_X5_19_1070 (v := (σ.2.1 1071)) E hX hD hP rfl dX5_going_23 ?_
    cases hf
    rw [hQ]; exact g_lret hx hb hr hlk hP hS dX5_going_26
theorem kxX5_going_TO (l : Launch) (D : va_G) (G : Nat → ClassId) {dsc : Nat → Option Dsc} {ad : Nat → Nat} {σ : Sto} {nr nw nu : Nat} (hD : XD dsc nr nw nu) {x1 : Int32} {x2 : Int32} {x3 : Int32} {r_ : Int64} {z_TO_by : Int32} (e_zI1072 : σ.1 1072 = z_TO_by) {z_L_to : Int32} (e_zI2013 : σ.1 2013 = z_L_to) {z_Ld_size : Int32} (e_zI2027 : σ.1 2027 = z_Ld_size) {z_TO_none : Int64} (e_zL1071 : σ.2.1 1071 = z_TO_none) {a_UNIT : Nat → Int32} (e_aI1170 : σ.2.2.1 1170 = a_UNIT) {a_L_seen : Nat → Int32} (e_aI2043 : σ.2.2.1 2043 = a_L_seen) {a_O_likely : Nat → Int64} (e_aL1143 : σ.2.2.2.1 1143 = a_O_likely) {a_TO_value : Nat → Int64} (e_aL1151 : σ.2.2.2.1 1151 = a_TO_value) {n_r : Nat} (e_nN0 : nr = n_r) {p_road_hours : Nat → Int32} (e_pR2 : (fun k => σ.1 (6000 + 16 * k + 2)) = p_road_hours) {p_road_wait : Nat → Int32} (e_pR5 : (fun k => σ.1 (6000 + 16 * k + 5)) = p_road_wait) {p_road_number : Nat → Int32} (e_pR6 : (fun k => σ.1 (6000 + 16 * k + 6)) = p_road_number) {g_grid : Nat → Nat → Int32} (e_gG0 : (fun k => σ.2.2.1 (4000 + 16 * k)) = g_grid) (hf : xo_X5_going_TB z_TO_by z_L_to z_Ld_size z_TO_none a_UNIT a_L_seen a_O_likely a_TO_value n_r p_road_hours p_road_wait p_road_number g_grid x1 x2 x3 = some r_) : CtG l D G dsc ad yX5_going (ws_ yX5_going cX5_going 7 (Option.some Jvm.ClassFile.FieldType.long)) rmX5_going_TO [.ref (ad 1070), .int x1, .int x2, .int x3] σ (some (.long r_)) σ := by
  subst e_zI1072
  subst e_zI2013
  subst e_zI2027
  subst e_zL1071
  subst e_aI1170
  subst e_aI2043
  subst e_aL1143
  subst e_aL1151
  subst e_nN0
  subst e_pR2
  subst e_pR5
  subst e_pR6
  subst e_gG0
  exact p_ctG (by decide +kernel) (Nat.le_of_ble_eq_true rfl) (fun p e s m below meth c0 ls A E hP hX hA hS hl => wkX5_going_TO E hX hD hA hf rfl hP hS hl)
/-! X6_isBetter_TO (JJ)Z -/
abbrev rmX6_isBetter_TO : Room := { frames := 0, cells := 0, slots := 0, locals := 0 }
set_option maxHeartbeats 4000000 in
theorem wkX6_isBetter_TO {x1 : Int64} {x3 : Int64} {r_ : Int32} (E : EN p s m args meth c0 RX6 cX6_isBetter 5 (Option.some Jvm.ClassFile.FieldType.boolean)) (hX : KX D G ad A s s.heap) (hD : XD dsc nr nw nu) (hA : ∀ q, PA dsc ad s.heap.size q → A q) (hf : xo_X6_isBetter_TB x1 x3 = some r_) (hQ : Q = MQ below (va_G1 (some (.int r_)) (fun t => PIC D clsA G dsc ad σ t.heap) A) args s 0 0 A) (hP : PIC D clsA G dsc ad σ H) (hS : va_S A s.heap H locs) (hl : lv_has ls 5 [(0, .ref (ad 1070)), (1, .long x1), (3, .long x3)]) : W p l e rmX6_isBetter_TO s m args below meth c0 H locs 0 0 Q (F0 m 0 ls []) := by
  obtain ⟨⟨hx, hb, hml, hown, hts⟩, hr, hlk⟩ := id E
  unfold xo_X6_isBetter_TB at hf
  refine lv_lload_n hx hb dX6_isBetter_0 rfl (lv_at hl 1 rfl) ?_
  refine lv_lload_n hx hb dX6_isBetter_1 rfl (lv_at hl 2 rfl) ?_
  refine W.lcmp hx hb dX6_isBetter_2 ?_
  refine lv_if_ge (tgt := 10) hx hb dX6_isBetter_3 (by decide) (fun c1 => ?_) (fun c1 => ?_)
  · have hf := ifT ((lgc_ge _ _).mp c1) hf
    refine lv_iconst hx hb dX6_isBetter_10 ic_0 ?_
    cases hf
    rw [hQ]; exact g_nret hx hb hr hlk hP hS rfl dX6_isBetter_11
  · have hf := ifF (mt (lgc_ge _ _).mpr c1) hf
    refine lv_iconst hx hb dX6_isBetter_6 ic_1 ?_
    refine lv_goto (tgt := 11) hx hb dX6_isBetter_7 (by decide) ?_
    cases hf
    rw [hQ]; exact g_nret hx hb hr hlk hP hS rfl dX6_isBetter_11
theorem kxX6_isBetter_TO (l : Launch) (D : va_G) (G : Nat → ClassId) {dsc : Nat → Option Dsc} {ad : Nat → Nat} {σ : Sto} {nr nw nu : Nat} (hD : XD dsc nr nw nu) {x1 : Int64} {x3 : Int64} {r_ : Int32} (hf : xo_X6_isBetter_TB x1 x3 = some r_) : CtG l D G dsc ad yX6_isBetter (ws_ yX6_isBetter cX6_isBetter 5 (Option.some Jvm.ClassFile.FieldType.boolean)) rmX6_isBetter_TO [.ref (ad 1070), .long x1, .long x3] σ (some (.int r_)) σ := by
  exact p_ctG (by decide +kernel) (Nat.le_of_ble_eq_true rfl) (fun p e s m below meth c0 ls A E hP hX hA hS hl => wkX6_isBetter_TO E hX hD hA hf rfl hP hS hl)
theorem cx_X5_98_X6_isBetter_TO {rm : Room} {σ1 : Sto} {x1 : Int64} {x3 : Int64} {r : Int32} (E : EN p s m args meth c0 RX5 cc nL ret) (hX : KX D G ad A s s.heap) (hD : XD dsc nr nw nu) (hP : PIC D clsA G dsc ad σ H) (hS : va_S A s.heap H locs) (hA : ∀ q, PA dsc ad s.heap.size q → A q) (hM : CtG l D G dsc ad yX6_isBetter (ws_ yX6_isBetter cX6_isBetter 5 (Option.some Jvm.ClassFile.FieldType.boolean)) rm [.ref (ad 1070), .long x1, .long x3] σ (some (.int r)) σ1) (hz : rm.cells = 0 ∧ rm.slots = 0) (hR : rm.frames + 1 ≤ R.frames ∧ 8 + (5 + 11) + rm.locals ≤ R.locals) (hcs : cells ≤ R.cells ∧ slots ≤ R.slots) (hsz : ls.size = nL) (hW : (rest.map fun v => v.category).sum ≤ 8) (hdg : decode cc pc = .ok (.invokevirtual 98, 3)) (kk : ∀ (H1 : Heap) (locs1 : List Loc), PIC D clsA G dsc ad σ1 H1 → va_S A s.heap H1 locs1 → W p l e R s m args below meth c0 H1 locs1 cells slots Q (F0 m (pc + 3) ls (.int r :: rest))) : W p l e R s m args below meth c0 H locs cells slots Q (F0 m pc ls (.long x3 :: .long x1 :: .ref (ad 1070) :: rest)) :=
  p_gU (As := [.long x1, .long x3]) (rest := rest) E.1 hX hP hS hA hM (cw_any (owner := "ShutPasses$Table") (x := ⟨"ShutPasses$Table", "isBetter", "(JJ)Z"⟩) (y := yX6_isBetter) (C := "ShutPasses$InMean") (index := 98) (own := RX5) 2 E.1.2.2.2.2 (lw_meth q1176) rfl hz.1 hz.2 (E.1.2.2.2.2 _ q1171) (E.1.2.2.2.2 _ q1173) (va_Decl.abs (hX.2.1.1 _ q1172 rfl)) (E.1.2.2.2.2 _ q1177) (E.1.2.2.2.2 _ q1175) (E.1.2.2.2.2 _ q132) (by decide +kernel) hR) (hD.1 _ _ dX_1070) rfl rfl rfl hsz rfl hW hdg hcs kk
/-! X5_better_TO (JJ)J -/
abbrev rmX5_better_TO : Room := { frames := 1, cells := 0, slots := 0, locals := 24 }
set_option maxHeartbeats 4000000 in
theorem wkX5_better_TO {x1 : Int64} {x3 : Int64} {r_ : Int64} (E : EN p s m args meth c0 RX5 cX5_better 5 (Option.some Jvm.ClassFile.FieldType.long)) (hX : KX D G ad A s s.heap) (hD : XD dsc nr nw nu) (hA : ∀ q, PA dsc ad s.heap.size q → A q) (hf : xo_X5_better_TB (σ.2.1 1071) x1 x3 = some r_) (hQ : Q = MQ below (va_G1 (some (.long r_)) (fun t => PIC D clsA G dsc ad σ t.heap) A) args s 0 0 A) (hP : PIC D clsA G dsc ad σ H) (hS : va_S A s.heap H locs) (hl : lv_has ls 5 [(0, .ref (ad 1070)), (1, .long x1), (3, .long x3)]) : W p l e rmX5_better_TO s m args below meth c0 H locs 0 0 Q (F0 m 0 ls []) := by
  obtain ⟨⟨hx, hb, hml, hown, hts⟩, hr, hlk⟩ := id E
  unfold xo_X5_better_TB at hf
  refine lv_lload_n hx hb dX5_better_0 rfl (lv_at hl 2 rfl) ?_
  refine lv_aload_n hx hb dX5_better_1 rfl (lv_at hl 0 rfl) ?_
  refine gx_X5_19_1070 (v := (σ.2.1 1071)) E hX hD hP rfl dX5_better_2 ?_
  refine W.lcmp hx hb dX5_better_5 ?_
  have J31 : xo_X5_better_TB_J31 x1 = some r_ → ∀ (H : Heap) (locs : List Loc), PIC D clsA G dsc ad σ H → va_S A s.heap H locs → ∀ (ls : Array Slot), lv_has ls 5 [(1, .long x1)] → W p l e rmX5_better_TO s m args below meth c0 H locs 0 0 Q (F0 m 31 ls []) := by
    intro  hf H locs hP hS ls hl
    unfold xo_X5_better_TB_J31 at hf
    refine lv_lload_n hx hb dX5_better_31 rfl (lv_at hl 0 rfl) ?_
    cases hf
    rw [hQ]; exact g_lret hx hb hr hlk hP hS dX5_better_32
  refine lv_if_eq (tgt := 31) hx hb dX5_better_6 (by decide) (fun c1 => ?_) (fun c1 => ?_)
  · have hf := ifT ((lgc_eq _ _).mp c1) hf
    exact J31  hf H locs hP hS ls (lv_sub hl [1] rfl)
  · have hf := ifF (mt (lgc_eq _ _).mpr c1) hf
    refine lv_lload_n hx hb dX5_better_9 rfl (lv_at hl 1 rfl) ?_
    refine lv_aload_n hx hb dX5_better_10 rfl (lv_at hl 0 rfl) ?_
    refine gx_X5_19_1070 (v := (σ.2.1 1071)) E hX hD hP rfl dX5_better_11 ?_
    refine W.lcmp hx hb dX5_better_14 ?_
    have J27 : xo_X5_better_TB_J27 x3 = some r_ → ∀ (H : Heap) (locs : List Loc), PIC D clsA G dsc ad σ H → va_S A s.heap H locs → ∀ (ls : Array Slot), lv_has ls 5 [(3, .long x3)] → W p l e rmX5_better_TO s m args below meth c0 H locs 0 0 Q (F0 m 27 ls []) := by
      intro  hf H locs hP hS ls hl
      unfold xo_X5_better_TB_J27 at hf
      refine lv_lload_n hx hb dX5_better_27 rfl (lv_at hl 0 rfl) ?_
      refine lv_goto (tgt := 32) hx hb dX5_better_28 (by decide) ?_
      cases hf
      rw [hQ]; exact g_lret hx hb hr hlk hP hS dX5_better_32
    refine lv_if_eq (tgt := 27) hx hb dX5_better_15 (by decide) (fun c2 => ?_) (fun c2 => ?_)
    · have hf := ifT ((lgc_eq _ _).mp c2) hf
      exact J27  hf H locs hP hS ls (lv_sub hl [2] rfl)
    · have hf := ifF (mt (lgc_eq _ _).mpr c2) hf
      refine lv_aload_n hx hb dX5_better_18 rfl (lv_at hl 0 rfl) ?_
      refine lv_lload_n hx hb dX5_better_19 rfl (lv_at hl 2 rfl) ?_
      refine lv_lload_n hx hb dX5_better_20 rfl (lv_at hl 1 rfl) ?_
      obtain ⟨v3, u4, hf⟩ := bdP hf
      refine cx_X5_98_X6_isBetter_TO E hX hD hP hS hA (kxX6_isBetter_TO l D G hD u4) ⟨rfl, rfl⟩ ⟨Nat.le_of_ble_eq_true rfl, Nat.le_of_ble_eq_true rfl⟩ ⟨Nat.zero_le _, Nat.zero_le _⟩ hl.1 (Nat.le_of_ble_eq_true rfl) dX5_better_21 (fun H locs hP hS => ?_)
      refine lv_if_eq (tgt := 31) hx hb dX5_better_24 (by decide) (fun c5 => ?_) (fun c5 => ?_)
      · have hf := ifT c5 hf
        exact J31  hf H locs hP hS ls (lv_sub hl [1] rfl)
      · have hf := ifF c5 hf
        exact J27  hf H locs hP hS ls (lv_sub hl [2] rfl)
theorem kxX5_better_TO (l : Launch) (D : va_G) (G : Nat → ClassId) {dsc : Nat → Option Dsc} {ad : Nat → Nat} {σ : Sto} {nr nw nu : Nat} (hD : XD dsc nr nw nu) {x1 : Int64} {x3 : Int64} {r_ : Int64} {z_TO_none : Int64} (e_zL1071 : σ.2.1 1071 = z_TO_none) (hf : xo_X5_better_TB z_TO_none x1 x3 = some r_) : CtG l D G dsc ad yX5_better (ws_ yX5_better cX5_better 5 (Option.some Jvm.ClassFile.FieldType.long)) rmX5_better_TO [.ref (ad 1070), .long x1, .long x3] σ (some (.long r_)) σ := by
  subst e_zL1071
  exact p_ctG (by decide +kernel) (Nat.le_of_ble_eq_true rfl) (fun p e s m below meth c0 ls A E hP hX hA hS hl => wkX5_better_TO E hX hD hA hf rfl hP hS hl)
/-! X5_buying_TO (III)J -/
abbrev rmX5_buying_TO : Room := { frames := 43, cells := 0, slots := 0, locals := 1193 }
set_option maxHeartbeats 4000000 in
theorem wkX5_buying_TO {x1 : Int32} {x2 : Int32} {x3 : Int32} {r_ : Int64} (E : EN p s m args meth c0 RX5 cX5_buying 7 (Option.some Jvm.ClassFile.FieldType.long)) (hX : KX D G ad A s s.heap) (hD : XD dsc nr nw nu) (hA : ∀ q, PA dsc ad s.heap.size q → A q) (hf : xo_X5_buying_TB (σ.1 1072) (σ.1 2013) (σ.1 2027) (σ.1 2032) (σ.2.1 1071) (σ.2.2.1 1170) (σ.2.2.1 2037) (σ.2.2.1 2043) (σ.2.2.2.1 1143) (σ.2.2.2.1 1151) nw (fun k => σ.1 (8000 + 16 * k + 0)) (fun k => σ.1 (8000 + 16 * k + 1)) (fun k => σ.1 (8000 + 16 * k + 2)) x1 x2 x3 = some r_) (hQ : Q = MQ below (va_G1 (some (.long r_)) (fun t => PIC D clsA G dsc ad σ t.heap) A) args s 0 0 A) (hP : PIC D clsA G dsc ad σ H) (hS : va_S A s.heap H locs) (hl : lv_has ls 7 [(0, .ref (ad 1070)), (1, .int x1), (2, .int x2), (3, .int x3)]) : W p l e rmX5_buying_TO s m args below meth c0 H locs 0 0 Q (F0 m 0 ls []) := by
  obtain ⟨⟨hx, hb, hml, hown, hts⟩, hr, hlk⟩ := id E
  unfold xo_X5_buying_TB at hf
  refine lv_aload_n hx hb dX5_buying_0 rfl (lv_at hl 0 rfl) ?_
  refine gx_X5_3_1070 E hX hD hP dX5_buying_1 ?_
  refine gx_X5_27_1000 E hX hD hP dX5_buying_4 ?_
  refine gx_X5_92_2000 E hX hD hP dX5_buying_7 ?_
  refine lv_iload_n hx hb dX5_buying_10 rfl (lv_at hl 2 rfl) ?_
  obtain ⟨v1, u2, hf⟩ := bdP hf
  refine cx_X5_135_J2_get_Lw E hX hD hP hS hA (kxJ2_get_Lw l D G hD rfl rfl u2) ⟨rfl, rfl⟩ ⟨Nat.le_of_ble_eq_true rfl, Nat.le_of_ble_eq_true rfl⟩ ⟨Nat.zero_le _, Nat.zero_le _⟩ hl.1 (Nat.le_of_ble_eq_true rfl) dX5_buying_11 (fun H locs hP hS => ?_)
  obtain ⟨v3, hv3, hf⟩ := bdP hf
  refine p_castP (ci := 16) (q := (RX19, TX19, 3)) hx hb hX.1 hP hown (hts _ q1189) hv3 hD.2.2.1 rfl dX5_buying_14 ?_
  refine r_astore (lv' := [(4, va_rf (drf ad 8000 v3)), (0, .ref (ad 1070)), (1, .int x1), (2, .int x2), (3, .int x3)]) hx hb dX5_buying_17 hl (by decide) rfl (fun ls hl => ?_)
  refine r_aload hx hb dX5_buying_19 (lv_at hl 0 rfl) ?_
  obtain ⟨v4, hv4, hf⟩ := bdP hf
  refine gp_X5_141_W E hX hD hP rfl hv4 dX5_buying_21 ?_
  refine lv_iload_n hx hb dX5_buying_24 rfl (lv_at hl 2 rfl) ?_
  have J40 : xo_X5_buying_TB_J40 (σ.2.1 1071) = some r_ → ∀ (H : Heap) (locs : List Loc), PIC D clsA G dsc ad σ H → va_S A s.heap H locs → ∀ (ls : Array Slot), lv_has ls 7 [(0, .ref (ad 1070))] → W p l e rmX5_buying_TO s m args below meth c0 H locs 0 0 Q (F0 m 40 ls []) := by
    intro  hf H locs hP hS ls hl
    unfold xo_X5_buying_TB_J40 at hf
    refine lv_aload_n hx hb dX5_buying_40 rfl (lv_at hl 0 rfl) ?_
    refine gx_X5_19_1070 (v := (σ.2.1 1071)) E hX hD hP rfl dX5_buying_41 ?_
    cases hf
    rw [hQ]; exact g_lret hx hb hr hlk hP hS dX5_buying_44
  refine lv_icmp_ne (tgt := 40) hx hb dX5_buying_25 (by decide) (fun c5 => ?_) (fun c5 => ?_)
  · have hf := ifF c5 hf
    exact J40  hf H locs hP hS ls (lv_sub hl [1] rfl)
  · have hf := ifT c5 hf
    refine lv_iload_n hx hb dX5_buying_28 rfl (lv_at hl 4 rfl) ?_
    refine r_aload hx hb dX5_buying_29 (lv_at hl 0 rfl) ?_
    obtain ⟨v6, hv6, hf⟩ := bdP hf
    refine gp_X5_144_W E hX hD hP rfl hv6 dX5_buying_31 ?_
    obtain ⟨v7, u8, hf⟩ := bdP hf
    refine cx_X5_59_X1_digit E hX hD hP hS hA (kxX1_digit l D G hD rfl u8) ⟨rfl, rfl⟩ ⟨Nat.le_of_ble_eq_true rfl, Nat.le_of_ble_eq_true rfl⟩ ⟨Nat.zero_le _, Nat.zero_le _⟩ hl.1 (Nat.le_of_ble_eq_true rfl) dX5_buying_34 (fun H locs hP hS => ?_)
    refine lv_if_eq (tgt := 45) hx hb dX5_buying_37 (by decide) (fun c9 => ?_) (fun c9 => ?_)
    · have hf := ifT c9 hf
      refine lv_aload_n hx hb dX5_buying_45 rfl (lv_at hl 1 rfl) ?_
      refine lv_iconst hx hb dX5_buying_46 ic_1 ?_
      refine r_aload hx hb dX5_buying_47 (lv_at hl 0 rfl) ?_
      obtain ⟨v10, hv10, hf⟩ := bdP hf
      refine gp_X5_144_W E hX hD hP rfl hv10 dX5_buying_49 ?_
      refine lv_ishl hx hb dX5_buying_52 ?_
      refine lv_iload_n hx hb dX5_buying_53 rfl (lv_at hl 2 rfl) ?_
      refine lv_iload_n hx hb dX5_buying_54 rfl (lv_at hl 4 rfl) ?_
      obtain ⟨v11, u12, hf⟩ := bdP hf
      refine cx_X5_114_X5_over_TO E hX hD hP hS hA (kxX5_over_TO l D G hD rfl rfl rfl rfl rfl rfl rfl rfl u12) ⟨rfl, rfl⟩ ⟨Nat.le_of_ble_eq_true rfl, Nat.le_of_ble_eq_true rfl⟩ ⟨Nat.zero_le _, Nat.zero_le _⟩ hl.1 (Nat.le_of_ble_eq_true rfl) dX5_buying_55 (fun H locs hP hS => ?_)
      refine lv_lstore (i := 5) (lv' := [(5, .long v11), (4, va_rf (drf ad 8000 v3)), (0, .ref (ad 1070)), (1, .int x1), (2, .int x2), (3, .int x3)]) hx hb dX5_buying_58 hl (by decide) (by simp [List.filter_cons, rf_cat]) (fun ls hl => ?_)
      refine lv_lload hx hb dX5_buying_60 (lv_at hl 0 rfl) ?_
      refine lv_aload_n hx hb dX5_buying_62 rfl (lv_at hl 2 rfl) ?_
      refine gx_X5_19_1070 (v := (σ.2.1 1071)) E hX hD hP rfl dX5_buying_63 ?_
      refine W.lcmp hx hb dX5_buying_66 ?_
      refine lv_if_ne (tgt := 77) hx hb dX5_buying_67 (by decide) (fun c13 => ?_) (fun c13 => ?_)
      · have hf := ifF (mt (lgc_eq _ _).mpr c13) hf
        refine lv_aload_n hx hb dX5_buying_77 rfl (lv_at hl 2 rfl) ?_
        refine lv_lload hx hb dX5_buying_78 (lv_at hl 0 rfl) ?_
        refine r_aload hx hb dX5_buying_80 (lv_at hl 1 rfl) ?_
        obtain ⟨v14, hv14, hf⟩ := bdP hf
        refine gp_X5_147_W E hX hD hP rfl hv14 dX5_buying_82 ?_
        refine lv_iload_n hx hb dX5_buying_85 rfl (lv_at hl 5 rfl) ?_
        obtain ⟨v15, u16, hf⟩ := bdP hf
        refine cx_X5_110_X6_ahead_TO E hX hD hP hS hA (kxX6_ahead_TO l D G hD rfl rfl u16) ⟨rfl, rfl⟩ ⟨Nat.le_of_ble_eq_true rfl, Nat.le_of_ble_eq_true rfl⟩ ⟨Nat.zero_le _, Nat.zero_le _⟩ hl.1 (Nat.le_of_ble_eq_true rfl) dX5_buying_86 (fun H locs hP hS => ?_)
        cases hf
        rw [hQ]; exact g_lret hx hb hr hlk hP hS dX5_buying_89
      · have hf := ifT ((lgc_eq _ _).mp c13) hf
        refine lv_aload_n hx hb dX5_buying_70 rfl (lv_at hl 2 rfl) ?_
        refine gx_X5_19_1070 (v := (σ.2.1 1071)) E hX hD hP rfl dX5_buying_71 ?_
        refine lv_goto (tgt := 89) hx hb dX5_buying_74 (by decide) ?_
        cases hf
        rw [hQ]; exact g_lret hx hb hr hlk hP hS dX5_buying_89
    · have hf := ifF c9 hf
      exact J40  hf H locs hP hS ls (lv_sub hl [1] rfl)
theorem kxX5_buying_TO (l : Launch) (D : va_G) (G : Nat → ClassId) {dsc : Nat → Option Dsc} {ad : Nat → Nat} {σ : Sto} {nr nw nu : Nat} (hD : XD dsc nr nw nu) {x1 : Int32} {x2 : Int32} {x3 : Int32} {r_ : Int64} {z_TO_by : Int32} (e_zI1072 : σ.1 1072 = z_TO_by) {z_L_to : Int32} (e_zI2013 : σ.1 2013 = z_L_to) {z_Ld_size : Int32} (e_zI2027 : σ.1 2027 = z_Ld_size) {z_Lw_size : Int32} (e_zI2032 : σ.1 2032 = z_Lw_size) {z_TO_none : Int64} (e_zL1071 : σ.2.1 1071 = z_TO_none) {a_UNIT : Nat → Int32} (e_aI1170 : σ.2.2.1 1170 = a_UNIT) {a_Lw_data : Nat → Int32} (e_aI2037 : σ.2.2.1 2037 = a_Lw_data) {a_L_seen : Nat → Int32} (e_aI2043 : σ.2.2.1 2043 = a_L_seen) {a_O_likely : Nat → Int64} (e_aL1143 : σ.2.2.2.1 1143 = a_O_likely) {a_TO_value : Nat → Int64} (e_aL1151 : σ.2.2.2.1 1151 = a_TO_value) {n_w : Nat} (e_nN1 : nw = n_w) {p_word_place : Nat → Int32} (e_pW0 : (fun k => σ.1 (8000 + 16 * k + 0)) = p_word_place) {p_word_road : Nat → Int32} (e_pW1 : (fun k => σ.1 (8000 + 16 * k + 1)) = p_word_road) {p_word_hours : Nat → Int32} (e_pW2 : (fun k => σ.1 (8000 + 16 * k + 2)) = p_word_hours) (hf : xo_X5_buying_TB z_TO_by z_L_to z_Ld_size z_Lw_size z_TO_none a_UNIT a_Lw_data a_L_seen a_O_likely a_TO_value n_w p_word_place p_word_road p_word_hours x1 x2 x3 = some r_) : CtG l D G dsc ad yX5_buying (ws_ yX5_buying cX5_buying 7 (Option.some Jvm.ClassFile.FieldType.long)) rmX5_buying_TO [.ref (ad 1070), .int x1, .int x2, .int x3] σ (some (.long r_)) σ := by
  subst e_zI1072
  subst e_zI2013
  subst e_zI2027
  subst e_zI2032
  subst e_zL1071
  subst e_aI1170
  subst e_aI2037
  subst e_aI2043
  subst e_aL1143
  subst e_aL1151
  subst e_nN1
  subst e_pW0
  subst e_pW1
  subst e_pW2
  exact p_ctG (by decide +kernel) (Nat.le_of_ble_eq_true rfl) (fun p e s m below meth c0 ls A E hP hX hA hS hl => wkX5_buying_TO E hX hD hA hf rfl hP hS hl)
end XWALK
