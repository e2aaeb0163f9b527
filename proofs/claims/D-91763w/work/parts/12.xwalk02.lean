section XWALK
variable {p : Program} {l : Launch} {e : Env} {R : Room} {s : State} {m : MethodId} {args : Array Value} {below : List Frame} {meth : Method} {c0 : Code} {H : Heap} {locs : List Loc} {cells slots : Nat} {Q : State → Prop}
variable {cc : ByteArray} {nL : Nat} {ret : Option FieldType} {pc : Nat} {ls : Array Slot} {rest : List Value} {D : va_G} {A : Nat → Prop} {G : Nat → ClassId} {dsc : Nat → Option Dsc} {ad : Nat → Nat} {σ : Sto} {nr nw nu : Nat}
/-! X11_isOpen_p4 (II)Z -/
abbrev rmX11_isOpen_p4 : Room := { frames := 0, cells := 0, slots := 0, locals := 0 }
set_option maxHeartbeats 4000000 in
theorem wkX11_isOpen_p4 {x1 : Int32} {x2 : Int32} {r_ : Int32} (E : EN p s m args meth c0 RX11 cX11_isOpen 3 (Option.some Jvm.ClassFile.FieldType.boolean)) (hX : KX D G ad A s s.heap) (hD : XD dsc nr nw nu) (hA : ∀ q, PA dsc ad s.heap.size q → A q) (hf : xo_X11_isOpen_p4 x1 x2 = some r_) (hQ : Q = MQ below (va_G1 (some (.int r_)) (fun t => PIC D clsA G dsc ad σ t.heap) A) args s 0 0 A) (hP : PIC D clsA G dsc ad σ H) (hS : va_S A s.heap H locs) (hl : lv_has ls 3 [(0, .ref (ad 1464)), (1, .int x1), (2, .int x2)]) : W p l e rmX11_isOpen_p4 s m args below meth c0 H locs 0 0 Q (F0 m 0 ls []) := by
  obtain ⟨⟨hx, hb, hml, hown, hts⟩, hr, hlk⟩ := id E
  unfold xo_X11_isOpen_p4 at hf
  refine lv_iconst hx hb dX11_isOpen_0 ic_0 ?_
  cases hf
  rw [hQ]; exact g_nret hx hb hr hlk hP hS rfl dX11_isOpen_1
theorem kxX11_isOpen_p4 (l : Launch) (D : va_G) (G : Nat → ClassId) {dsc : Nat → Option Dsc} {ad : Nat → Nat} {σ : Sto} {nr nw nu : Nat} (hD : XD dsc nr nw nu) {x1 : Int32} {x2 : Int32} {r_ : Int32} (hf : xo_X11_isOpen_p4 x1 x2 = some r_) : CtG l D G dsc ad yX11_isOpen (ws_ yX11_isOpen cX11_isOpen 3 (Option.some Jvm.ClassFile.FieldType.boolean)) rmX11_isOpen_p4 [.ref (ad 1464), .int x1, .int x2] σ (some (.int r_)) σ := by
  exact p_ctG (by decide +kernel) (Nat.le_of_ble_eq_true rfl) (fun p e s m below meth c0 ls A E hP hX hA hS hl => wkX11_isOpen_p4 E hX hD hA hf rfl hP hS hl)
theorem gx_X10_3_1464 (E : EN p s m args meth c0 RX10 cc nL ret) (hX : KX D G ad A s s.heap) (hD : XD dsc nr nw nu) (hP : PIC D clsA G dsc ad σ H) (hdg : decode cc pc = .ok (.getfield 3, 3)) (kk : W p l e R s m args below meth c0 H locs cells slots Q (F0 m (pc + 3) ls (.ref (ad 1000) :: rest))) : W p l e R s m args below meth c0 H locs cells slots Q (F0 m pc ls (.ref (ad 1464) :: rest)) :=
  p_get E.1.1 E.1.2.1 E.1.2.2.2.2 in_X11 E.1.2.2.2.1 hX.1 hP (hD.1 _ _ dX_1464) rfl 1 (by decide) (E.1.2.2.2.2 _ q434) (fun _ h => h) rfl rfl hdg kk
theorem cx_X10_43_X11_isOpen_p4 {rm : Room} {σ1 : Sto} {x1 : Int32} {x2 : Int32} {r : Int32} (E : EN p s m args meth c0 RX10 cc nL ret) (hX : KX D G ad A s s.heap) (hD : XD dsc nr nw nu) (hP : PIC D clsA G dsc ad σ H) (hS : va_S A s.heap H locs) (hA : ∀ q, PA dsc ad s.heap.size q → A q) (hM : CtG l D G dsc ad yX11_isOpen (ws_ yX11_isOpen cX11_isOpen 3 (Option.some Jvm.ClassFile.FieldType.boolean)) rm [.ref (ad 1464), .int x1, .int x2] σ (some (.int r)) σ1) (hz : rm.cells = 0 ∧ rm.slots = 0) (hR : rm.frames + 1 ≤ R.frames ∧ 8 + (3 + 11) + rm.locals ≤ R.locals) (hcs : cells ≤ R.cells ∧ slots ≤ R.slots) (hsz : ls.size = nL) (hW : (rest.map fun v => v.category).sum ≤ 8) (hdg : decode cc pc = .ok (.invokevirtual 43, 3)) (kk : ∀ (H1 : Heap) (locs1 : List Loc), PIC D clsA G dsc ad σ1 H1 → va_S A s.heap H1 locs1 → W p l e R s m args below meth c0 H1 locs1 cells slots Q (F0 m (pc + 3) ls (.int r :: rest))) : W p l e R s m args below meth c0 H locs cells slots Q (F0 m pc ls (.int x2 :: .int x1 :: .ref (ad 1464) :: rest)) :=
  p_gU (As := [.int x1, .int x2]) (rest := rest) E.1 hX hP hS hA hM (cw_any (owner := "ShutPasses$AsIf") (x := ⟨"ShutPasses$AsIf", "isOpen", "(II)Z"⟩) (y := yX11_isOpen) (C := "ShutPasses$Fear") (index := 43) (own := RX10) 2 E.1.2.2.2.2 (lw_meth q1218) rfl hz.1 hz.2 (E.1.2.2.2.2 _ q1213) (E.1.2.2.2.2 _ q1215) (va_Decl.abs (hX.2.1.1 _ q1214 rfl)) (E.1.2.2.2.2 _ q1216) (E.1.2.2.2.2 _ q1217) (E.1.2.2.2.2 _ q137) (by decide +kernel) hR) (hD.1 _ _ dX_1464) rfl rfl rfl hsz rfl hW hdg hcs kk
/-! X10_cost_p4 (III)I -/
abbrev rmX10_cost_p4 : Room := { frames := 2, cells := 0, slots := 0, locals := 46 }
set_option maxHeartbeats 4000000 in
theorem wkX10_cost_p4 {x1 : Int32} {x2 : Int32} {x3 : Int32} {r_ : Int32} (E : EN p s m args meth c0 RX10 cX10_cost 5 (Option.some Jvm.ClassFile.FieldType.int)) (hX : KX D G ad A s s.heap) (hD : XD dsc nr nw nu) (hA : ∀ q, PA dsc ad s.heap.size q → A q) (hf : xo_X10_cost_p4 (σ.2.2.1 1170) nr (fun k => σ.1 (6000 + 16 * k + 2)) (fun k => σ.1 (6000 + 16 * k + 5)) (fun k => σ.1 (6000 + 16 * k + 6)) (fun k => σ.2.2.1 (4000 + 16 * k)) x1 x2 x3 = some r_) (hQ : Q = MQ below (va_G1 (some (.int r_)) (fun t => PIC D clsA G dsc ad σ t.heap) A) args s 0 0 A) (hP : PIC D clsA G dsc ad σ H) (hS : va_S A s.heap H locs) (hl : lv_has ls 5 [(0, .ref (ad 1464)), (1, .int x1), (2, .int x2), (3, .int x3)]) : W p l e rmX10_cost_p4 s m args below meth c0 H locs 0 0 Q (F0 m 0 ls []) := by
  obtain ⟨⟨hx, hb, hml, hown, hts⟩, hr, hlk⟩ := id E
  unfold xo_X10_cost_p4 at hf
  refine lv_aload_n hx hb dX10_cost_0 rfl (lv_at hl 0 rfl) ?_
  refine gx_X10_3_1464 E hX hD hP dX10_cost_1 ?_
  refine gx_X10_19_1000 E hX hD hP dX10_cost_4 ?_
  refine lv_iload_n hx hb dX10_cost_7 rfl (lv_at hl 1 rfl) ?_
  refine lv_iload_n hx hb dX10_cost_8 rfl (lv_at hl 2 rfl) ?_
  obtain ⟨v1, u2, hf⟩ := bdP hf
  refine cx_X10_23_X3_between E hX hD hP hS hA (kxX3_between l D G hD rfl u2) ⟨rfl, rfl⟩ ⟨Nat.le_of_ble_eq_true rfl, Nat.le_of_ble_eq_true rfl⟩ ⟨Nat.zero_le _, Nat.zero_le _⟩ hl.1 (Nat.le_of_ble_eq_true rfl) dX10_cost_9 (fun H locs hP hS => ?_)
  refine r_astore (lv' := [(4, va_rf (drf ad 6000 v1)), (0, .ref (ad 1464)), (1, .int x1), (2, .int x2), (3, .int x3)]) hx hb dX10_cost_12 hl (by decide) rfl (fun ls hl => ?_)
  refine r_aload hx hb dX10_cost_14 (lv_at hl 0 rfl) ?_
  have J40 : xo_X10_cost_p4_J40 (σ.2.2.1 1170) nr (fun k => σ.1 (6000 + 16 * k + 2)) (fun k => σ.1 (6000 + 16 * k + 5)) (fun k => σ.1 (6000 + 16 * k + 6)) (fun k => σ.2.2.1 (4000 + 16 * k)) x1 x2 x3 = some r_ → ∀ (H : Heap) (locs : List Loc), PIC D clsA G dsc ad σ H → va_S A s.heap H locs → ∀ (ls : Array Slot), lv_has ls 5 [(0, .ref (ad 1464)), (1, .int x1), (2, .int x2), (3, .int x3)] → W p l e rmX10_cost_p4 s m args below meth c0 H locs 0 0 Q (F0 m 40 ls []) := by
    intro  hf H locs hP hS ls hl
    unfold xo_X10_cost_p4_J40 at hf
    refine lv_aload_n hx hb dX10_cost_40 rfl (lv_at hl 0 rfl) ?_
    refine gx_X10_3_1464 E hX hD hP dX10_cost_41 ?_
    refine gx_X10_19_1000 E hX hD hP dX10_cost_44 ?_
    refine lv_iload_n hx hb dX10_cost_47 rfl (lv_at hl 1 rfl) ?_
    refine lv_iload_n hx hb dX10_cost_48 rfl (lv_at hl 2 rfl) ?_
    refine lv_iload_n hx hb dX10_cost_49 rfl (lv_at hl 3 rfl) ?_
    obtain ⟨v3, u4, hf⟩ := bdP hf
    refine cx_X10_39_X3_cost E hX hD hP hS hA (kxX3_cost l D G hD rfl rfl rfl rfl rfl rfl u4) ⟨rfl, rfl⟩ ⟨Nat.le_of_ble_eq_true rfl, Nat.le_of_ble_eq_true rfl⟩ ⟨Nat.zero_le _, Nat.zero_le _⟩ hl.1 (Nat.le_of_ble_eq_true rfl) dX10_cost_50 (fun H locs hP hS => ?_)
    cases hf
    rw [hQ]; exact g_iret hx hb hr hlk hP hS dX10_cost_53
  refine r_ifnull (tgt := 40) hx hb dX10_cost_16 (by decide) (fun c5 => ?_) (fun c5 => ?_)
  · have hf := ifT c5 hf
    exact J40  hf H locs hP hS ls (lv_sub hl [1, 2, 3, 4] rfl)
  · have hf := ifF c5 hf
    refine r_aload hx hb dX10_cost_19 (lv_at hl 0 rfl) ?_
    obtain ⟨v6, hv6, hf⟩ := bdP hf
    refine gp_X10_29_R E hX hD hP rfl hv6 dX10_cost_21 ?_
    refine lv_iconst hx hb dX10_cost_24 ic_m1 ?_
    refine lv_icmp_eq (tgt := 40) hx hb dX10_cost_25 (by decide) (fun c7 => ?_) (fun c7 => ?_)
    · have hf := ifT c7 hf
      exact J40  hf H locs hP hS ls (lv_sub hl [1, 2, 3, 4] rfl)
    · have hf := ifF c7 hf
      refine lv_iload_n hx hb dX10_cost_28 rfl (lv_at hl 4 rfl) ?_
      refine r_aload hx hb dX10_cost_29 (lv_at hl 0 rfl) ?_
      obtain ⟨v8, hv8, hf⟩ := bdP hf
      refine gp_X10_29_R E hX hD hP rfl hv8 dX10_cost_31 ?_
      obtain ⟨v9, u10, hf⟩ := bdP hf
      refine cx_X10_35_X1_digit E hX hD hP hS hA (kxX1_digit l D G hD rfl u10) ⟨rfl, rfl⟩ ⟨Nat.le_of_ble_eq_true rfl, Nat.le_of_ble_eq_true rfl⟩ ⟨Nat.zero_le _, Nat.zero_le _⟩ hl.1 (Nat.le_of_ble_eq_true rfl) dX10_cost_34 (fun H locs hP hS => ?_)
      refine lv_if_eq (tgt := 54) hx hb dX10_cost_37 (by decide) (fun c11 => ?_) (fun c11 => ?_)
      · have hf := ifT c11 hf
        refine lv_aload_n hx hb dX10_cost_54 rfl (lv_at hl 1 rfl) ?_
        refine r_aload hx hb dX10_cost_55 (lv_at hl 0 rfl) ?_
        obtain ⟨v12, hv12, hf⟩ := bdP hf
        refine gp_X10_29_R E hX hD hP rfl hv12 dX10_cost_57 ?_
        refine lv_iload_n hx hb dX10_cost_60 rfl (lv_at hl 4 rfl) ?_
        obtain ⟨v13, u14, hf⟩ := bdP hf
        refine cx_X10_43_X11_isOpen_p4 E hX hD hP hS hA (kxX11_isOpen_p4 l D G hD u14) ⟨rfl, rfl⟩ ⟨Nat.le_of_ble_eq_true rfl, Nat.le_of_ble_eq_true rfl⟩ ⟨Nat.zero_le _, Nat.zero_le _⟩ hl.1 (Nat.le_of_ble_eq_true rfl) dX10_cost_61 (fun H locs hP hS => ?_)
        refine lv_if_eq (tgt := 75) hx hb dX10_cost_64 (by decide) (fun c15 => ?_) (fun c15 => ?_)
        · have hf := ifT c15 hf
          refine r_aload hx hb dX10_cost_75 (lv_at hl 0 rfl) ?_
          obtain ⟨v16, hv16, hf⟩ := bdP hf
          refine gp_X10_50_R E hX hD hP rfl hv16 dX10_cost_77 ?_
          refine lv_if_le (tgt := 97) hx hb dX10_cost_80 (by decide) (fun c17 => ?_) (fun c17 => ?_)
          · have hf := ifT c17 hf
            refine lv_ldc hx hb hown (hts _ q1205) dX10_cost_97 ?_
            cases hf
            rw [hQ]; exact g_iret hx hb hr hlk hP hS dX10_cost_99
          · have hf := ifF c17 hf
            refine r_aload hx hb dX10_cost_83 (lv_at hl 0 rfl) ?_
            obtain ⟨v18, hv18, hf⟩ := bdP hf
            refine gp_X10_47_R E hX hD hP rfl hv18 dX10_cost_85 ?_
            refine r_aload hx hb dX10_cost_88 (lv_at hl 0 rfl) ?_
            obtain ⟨v19, hv19, hf⟩ := bdP hf
            refine gp_X10_50_R E hX hD hP rfl hv19 dX10_cost_90 ?_
            refine lv_iadd hx hb dX10_cost_93 ?_
            refine lv_goto (tgt := 99) hx hb dX10_cost_94 (by decide) ?_
            cases hf
            rw [hQ]; exact g_iret hx hb hr hlk hP hS dX10_cost_99
        · have hf := ifF c15 hf
          refine r_aload hx hb dX10_cost_67 (lv_at hl 0 rfl) ?_
          obtain ⟨v20, hv20, hf⟩ := bdP hf
          refine gp_X10_47_R E hX hD hP rfl hv20 dX10_cost_69 ?_
          refine lv_goto (tgt := 99) hx hb dX10_cost_72 (by decide) ?_
          cases hf
          rw [hQ]; exact g_iret hx hb hr hlk hP hS dX10_cost_99
      · have hf := ifF c11 hf
        exact J40  hf H locs hP hS ls (lv_sub hl [1, 2, 3, 4] rfl)
theorem kxX10_cost_p4 (l : Launch) (D : va_G) (G : Nat → ClassId) {dsc : Nat → Option Dsc} {ad : Nat → Nat} {σ : Sto} {nr nw nu : Nat} (hD : XD dsc nr nw nu) {x1 : Int32} {x2 : Int32} {x3 : Int32} {r_ : Int32} {a_UNIT : Nat → Int32} (e_aI1170 : σ.2.2.1 1170 = a_UNIT) {n_r : Nat} (e_nN0 : nr = n_r) {p_road_hours : Nat → Int32} (e_pR2 : (fun k => σ.1 (6000 + 16 * k + 2)) = p_road_hours) {p_road_wait : Nat → Int32} (e_pR5 : (fun k => σ.1 (6000 + 16 * k + 5)) = p_road_wait) {p_road_number : Nat → Int32} (e_pR6 : (fun k => σ.1 (6000 + 16 * k + 6)) = p_road_number) {g_grid : Nat → Nat → Int32} (e_gG0 : (fun k => σ.2.2.1 (4000 + 16 * k)) = g_grid) (hf : xo_X10_cost_p4 a_UNIT n_r p_road_hours p_road_wait p_road_number g_grid x1 x2 x3 = some r_) : CtG l D G dsc ad yX10_cost (ws_ yX10_cost cX10_cost 5 (Option.some Jvm.ClassFile.FieldType.int)) rmX10_cost_p4 [.ref (ad 1464), .int x1, .int x2, .int x3] σ (some (.int r_)) σ := by
  subst e_aI1170
  subst e_nN0
  subst e_pR2
  subst e_pR5
  subst e_pR6
  subst e_gG0
  exact p_ctG (by decide +kernel) (Nat.le_of_ble_eq_true rfl) (fun p e s m below meth c0 ls A E hP hX hA hS hl => wkX10_cost_p4 E hX hD hA hf rfl hP hS hl)
theorem gx_X10_15_1464 (E : EN p s m args meth c0 RX10 cc nL ret) (hX : KX D G ad A s s.heap) (hD : XD dsc nr nw nu) (hP : PIC D clsA G dsc ad σ H) (hdg : decode cc pc = .ok (.getfield 15, 3)) (kk : W p l e R s m args below meth c0 H locs cells slots Q (F0 m (pc + 3) ls (.ref (ad 1163) :: rest))) : W p l e R s m args below meth c0 H locs cells slots Q (F0 m pc ls (.ref (ad 1464) :: rest)) :=
  p_get E.1.1 E.1.2.1 E.1.2.2.2.2 in_X11 E.1.2.2.2.1 hX.1 hP (hD.1 _ _ dX_1464) rfl 0 (by decide) (E.1.2.2.2.2 _ q433) (fun _ h => h) rfl rfl hdg kk
theorem cx_X10_60_X10_cost_p4 {rm : Room} {σ1 : Sto} {x1 : Int32} {x2 : Int32} {x3 : Int32} {r : Int32} (E : EN p s m args meth c0 RX10 cc nL ret) (hX : KX D G ad A s s.heap) (hD : XD dsc nr nw nu) (hP : PIC D clsA G dsc ad σ H) (hS : va_S A s.heap H locs) (hA : ∀ q, PA dsc ad s.heap.size q → A q) (hM : CtG l D G dsc ad yX10_cost (ws_ yX10_cost cX10_cost 5 (Option.some Jvm.ClassFile.FieldType.int)) rm [.ref (ad 1464), .int x1, .int x2, .int x3] σ (some (.int r)) σ1) (hz : rm.cells = 0 ∧ rm.slots = 0) (hR : rm.frames + 1 ≤ R.frames ∧ 8 + (5 + 11) + rm.locals ≤ R.locals) (hcs : cells ≤ R.cells ∧ slots ≤ R.slots) (hsz : ls.size = nL) (hW : (rest.map fun v => v.category).sum ≤ 8) (hdg : decode cc pc = .ok (.invokevirtual 60, 3)) (kk : ∀ (H1 : Heap) (locs1 : List Loc), PIC D clsA G dsc ad σ1 H1 → va_S A s.heap H1 locs1 → W p l e R s m args below meth c0 H1 locs1 cells slots Q (F0 m (pc + 3) ls (.int r :: rest))) : W p l e R s m args below meth c0 H locs cells slots Q (F0 m pc ls (.int x3 :: .int x2 :: .int x1 :: .ref (ad 1464) :: rest)) :=
  p_gU (As := [.int x1, .int x2, .int x3]) (rest := rest) E.1 hX hP hS hA hM (cw_any (owner := "ShutPasses$AsIf") (x := ⟨"ShutPasses$AsIf", "cost", "(III)I"⟩) (y := yX10_cost) (C := "ShutPasses$Fear") (index := 60) (own := RX10) 3 E.1.2.2.2.2 (lw_meth q1209) rfl hz.1 hz.2 (E.1.2.2.2.2 _ q1206) (E.1.2.2.2.2 _ q2283) (va_Decl.of (E.1.2.2.2.2 _ q1208) (E.1.2.2.2.2 _ q1209)) (va_Nw.use rfl (hX.2.1.2 ("ShutPasses$Fear", yX10_cost) (by decide +kernel))) (E.1.2.2.2.2 _ q1208) (E.1.2.2.2.2 _ q136) (by decide +kernel) hR) (hD.1 _ _ dX_1464) rfl rfl rfl hsz rfl hW hdg hcs kk
/-! X10_next_p4 (II)I -/
def sgX10_next_p4 (σ : Sto) (w0 : Nat → Int32) : Sto := aI σ 1163 w0
theorem sgX10_next_p4_self (σ : Sto) : sgX10_next_p4 σ (σ.2.2.1 1163) = σ := by
  unfold sgX10_next_p4
  simp only [zI_self, zL_self, aI_self, aL_self]
theorem sgX10_next_p4_aI1163 {σ : Sto} {w0 : Nat → Int32} {g : Nat → Int32} : aI (sgX10_next_p4 σ w0) 1163 g = sgX10_next_p4 σ g := aI_aI _ 1163 _ _
theorem sgX10_next_p4_rzI2008 {σ : Sto} {w0 : Nat → Int32} : (sgX10_next_p4 σ w0).1 2008 = σ.1 2008 := rfl
theorem sgX10_next_p4_rzI2013 {σ : Sto} {w0 : Nat → Int32} : (sgX10_next_p4 σ w0).1 2013 = σ.1 2013 := rfl
theorem sgX10_next_p4_raI1163 {σ : Sto} {w0 : Nat → Int32} : (sgX10_next_p4 σ w0).2.2.1 1163 = w0 := rfl
theorem sgX10_next_p4_raI1170 {σ : Sto} {w0 : Nat → Int32} : (sgX10_next_p4 σ w0).2.2.1 1170 = σ.2.2.1 1170 := rfl
theorem sgX10_next_p4_rpR2 {σ : Sto} {w0 : Nat → Int32} : (fun k => (sgX10_next_p4 σ w0).1 (6000 + 16 * k + 2)) = (fun k => σ.1 (6000 + 16 * k + 2)) := by
  funext k
  unfold sgX10_next_p4
  dsimp only [zI, zL, aI, aL]
  repeat rw [if_neg (by omega)]
theorem sgX10_next_p4_rpR5 {σ : Sto} {w0 : Nat → Int32} : (fun k => (sgX10_next_p4 σ w0).1 (6000 + 16 * k + 5)) = (fun k => σ.1 (6000 + 16 * k + 5)) := by
  funext k
  unfold sgX10_next_p4
  dsimp only [zI, zL, aI, aL]
  repeat rw [if_neg (by omega)]
theorem sgX10_next_p4_rpR6 {σ : Sto} {w0 : Nat → Int32} : (fun k => (sgX10_next_p4 σ w0).1 (6000 + 16 * k + 6)) = (fun k => σ.1 (6000 + 16 * k + 6)) := by
  funext k
  unfold sgX10_next_p4
  dsimp only [zI, zL, aI, aL]
  repeat rw [if_neg (by omega)]
theorem sgX10_next_p4_rgG0 {σ : Sto} {w0 : Nat → Int32} : (fun k => (sgX10_next_p4 σ w0).2.2.1 (4000 + 16 * k)) = (fun k => σ.2.2.1 (4000 + 16 * k)) := by
  funext k
  unfold sgX10_next_p4
  dsimp only [zI, zL, aI, aL]
  repeat rw [if_neg (by omega)]
abbrev rmX10_next_p4 : Room := { frames := 3, cells := 0, slots := 0, locals := 70 }
set_option maxHeartbeats 4000000 in
theorem wkX10_next_p4 {x1 : Int32} {x2 : Int32} {r_ : Int32} {w_aI1163 : Nat → Int32} (E : EN p s m args meth c0 RX10 cX10_next 7 (Option.some Jvm.ClassFile.FieldType.int)) (hX : KX D G ad A s s.heap) (hD : XD dsc nr nw nu) (hA : ∀ q, PA dsc ad s.heap.size q → A q) (hf : xo_X10_next_p4 (σ.1 2008) (σ.1 2013) (σ.2.2.1 1163) (σ.2.2.1 1170) nr (fun k => σ.1 (6000 + 16 * k + 2)) (fun k => σ.1 (6000 + 16 * k + 5)) (fun k => σ.1 (6000 + 16 * k + 6)) (fun k => σ.2.2.1 (4000 + 16 * k)) x1 x2 = some (r_, w_aI1163)) (hQ : Q = MQ below (va_G1 (some (.int r_)) (fun t => PIC D clsA G dsc ad (sgX10_next_p4 σ w_aI1163) t.heap) A) args s 0 0 A) (hP : PIC D clsA G dsc ad σ H) (hS : va_S A s.heap H locs) (hl : lv_has ls 7 [(0, .ref (ad 1464)), (1, .int x1), (2, .int x2)]) : W p l e rmX10_next_p4 s m args below meth c0 H locs 0 0 Q (F0 m 0 ls []) := by
  obtain ⟨⟨hx, hb, hml, hown, hts⟩, hr, hlk⟩ := id E
  have hP := hP.to (sgX10_next_p4_self σ).symm
  unfold xo_X10_next_p4 at hf
  refine lv_iload_n hx hb dX10_next_0 rfl (lv_at hl 1 rfl) ?_
  refine lv_aload_n hx hb dX10_next_1 rfl (lv_at hl 0 rfl) ?_
  refine gx_X10_3_1464 E hX hD hP dX10_next_2 ?_
  refine gx_X10_19_1000 E hX hD hP dX10_next_5 ?_
  refine gx_X10_54_2000 (v := (σ.1 2013)) E hX hD hP sgX10_next_p4_rzI2013 dX10_next_8 ?_
  refine lv_icmp_ne (tgt := 17) hx hb dX10_next_11 (by decide) (fun c1 => ?_) (fun c1 => ?_)
  · have hf := ifF c1 hf
    refine lv_iconst hx hb dX10_next_17 ic_0 ?_
    refine lv_istore_n (lv' := [(3, .int 0), (0, .ref (ad 1464)), (1, .int x1), (2, .int x2)]) hx hb dX10_next_18 rfl hl (by decide) rfl (fun ls hl => ?_)
    have LP19 : ∀ (st19 : Int32 × (Nat → Int32)) (ex19 : ((Nat → Int32))), loop (xo_X10_next_p4_L19 (σ.1 2008) (σ.1 2013)) st19 = some ex19 → ∀ (H : Heap) (locs : List Loc), PIC D clsA G dsc ad (sgX10_next_p4 σ (st19.2)) H → va_S A s.heap H locs → ∀ (ls : Array Slot), lv_has ls 7 [(0, .ref (ad 1464)), (1, .int x1), (2, .int x2), (3, .int (st19.1))] → (∀ (a10 : Nat → Int32), ex19 = a10 → ∀ (H : Heap) (locs : List Loc), PIC D clsA G dsc ad (sgX10_next_p4 σ a10) H → va_S A s.heap H locs → ∀ (ls : Array Slot), lv_has ls 7 [(0, .ref (ad 1464)), (1, .int x1), (2, .int x2)] → W p l e rmX10_next_p4 s m args below meth c0 H locs 0 0 Q (F0 m 65 ls [])) → W p l e rmX10_next_p4 s m args below meth c0 H locs 0 0 Q (F0 m 19 ls []) := by
      refine loop_P (fun st19 ex19 o19 hf ih19 hx19 => ?_)
      obtain ⟨y2, a3⟩ := st19
      intro H locs (hP : PIC D clsA G dsc ad (sgX10_next_p4 σ a3) H) hS ls (hl : lv_has ls 7 [(0, .ref (ad 1464)), (1, .int x1), (2, .int x2), (3, .int y2)]) KE19_0
      dsimp only [xo_X10_next_p4_L19] at hf
      refine lv_iload_n hx hb dX10_next_19 rfl (lv_at hl 3 rfl) ?_
      refine lv_aload_n hx hb dX10_next_20 rfl (lv_at hl 0 rfl) ?_
      refine gx_X10_3_1464 E hX hD hP dX10_next_21 ?_
      refine gx_X10_19_1000 E hX hD hP dX10_next_24 ?_
      refine gx_X10_57_2000 (v := (σ.1 2008)) E hX hD hP sgX10_next_p4_rzI2008 dX10_next_27 ?_
      refine lv_icmp_ge (tgt := 65) hx hb dX10_next_30 (by decide) (fun c4 => ?_) (fun c4 => ?_)
      · have hf := ifT c4 hf
        exact KE19_0 _ (hx19 _ (Option.some.inj hf).symm).symm H locs hP hS ls (lv_sub hl [0, 1, 2] rfl)
      · have hf := ifF c4 hf
        refine lv_aload_n hx hb dX10_next_33 rfl (lv_at hl 0 rfl) ?_
        refine gx_X10_15_1464 E hX hD hP dX10_next_34 ?_
        refine lv_iload_n hx hb dX10_next_37 rfl (lv_at hl 3 rfl) ?_
        refine lv_iload_n hx hb dX10_next_38 rfl (lv_at hl 3 rfl) ?_
        refine lv_aload_n hx hb dX10_next_39 rfl (lv_at hl 0 rfl) ?_
        refine gx_X10_3_1464 E hX hD hP dX10_next_40 ?_
        refine gx_X10_19_1000 E hX hD hP dX10_next_43 ?_
        refine gx_X10_54_2000 (v := (σ.1 2013)) E hX hD hP sgX10_next_p4_rzI2013 dX10_next_46 ?_
        have J58 : ∀ (k5 : Int32) (k6 : Int32), xo_X10_next_p4_J58 y2 a3 k5 k6 = some o19 → ∀ (H : Heap) (locs : List Loc), PIC D clsA G dsc ad (sgX10_next_p4 σ a3) H → va_S A s.heap H locs → ∀ (ls : Array Slot), lv_has ls 7 [(0, .ref (ad 1464)), (1, .int x1), (2, .int x2), (3, .int y2)] → W p l e rmX10_next_p4 s m args below meth c0 H locs 0 0 Q (F0 m 58 ls [.int k5, .int k6, .ref (ad 1163)]) := by
          intro k5 k6 hf H locs hP hS ls hl
          unfold xo_X10_next_p4_J58 at hf
          obtain ⟨a7, ha7, hf⟩ := bdP hf
          refine p_iast hx hb hX.1 hP hS (hA _ (PA_c (hD.1 _ _ dX_1163))) (hD.1 _ _ dX_1163) sgX10_next_p4_raI1163 ha7 sgX10_next_p4_aI1163 dX10_next_58 (fun H locs hP hS => ?_)
          obtain ⟨v8, hv8, hf⟩ := bdP hf
          refine lv_iinc (v := v8) (lv' := [(3, .int v8), (0, .ref (ad 1464)), (1, .int x1), (2, .int x2)]) hx hb dX10_next_59 hl (k := 3) rfl (Option.some.inj hv8) (by decide) rfl (fun ls hl => ?_)
          refine lv_goto (tgt := 19) hx hb dX10_next_62 (by decide) ?_
          exact ih19 _ (Option.some.inj hf).symm H locs hP hS ls (lv_sub hl [1, 2, 3, 0] rfl) KE19_0
        refine lv_icmp_ne (tgt := 56) hx hb dX10_next_49 (by decide) (fun c9 => ?_) (fun c9 => ?_)
        · have hf := ifF c9 hf
          refine lv_ldc hx hb hown (hts _ q1205) dX10_next_56 ?_
          exact J58 1000000 y2 hf H locs hP hS ls (lv_sub hl [0, 1, 2, 3] rfl)
        · have hf := ifT c9 hf
          refine lv_iconst hx hb dX10_next_52 ic_0 ?_
          refine lv_goto (tgt := 58) hx hb dX10_next_53 (by decide) ?_
          exact J58 0 y2 hf H locs hP hS ls (lv_sub hl [0, 1, 2, 3] rfl)
    obtain ⟨ex19, hlp19, hf⟩ := bdP hf
    refine LP19 (0, (σ.2.2.1 1163)) ex19 hlp19 H locs hP hS ls (lv_sub hl [1, 2, 3, 0] rfl) ?_
    intro a10 hex19 H locs hP hS ls hl
    subst ex19
    refine lv_iconst hx hb dX10_next_65 ic_1 ?_
    refine lv_istore_n (lv' := [(3, .int 1), (0, .ref (ad 1464)), (1, .int x1), (2, .int x2)]) hx hb dX10_next_66 rfl hl (by decide) rfl (fun ls hl => ?_)
    have LP67 : ∀ (st67 : Int32 × (Nat → Int32)) (ex67 : ((Nat → Int32))), loop (xo_X10_next_p4_L67 (σ.1 2008) (σ.2.2.1 1170) nr (fun k => σ.1 (6000 + 16 * k + 2)) (fun k => σ.1 (6000 + 16 * k + 5)) (fun k => σ.1 (6000 + 16 * k + 6)) (fun k => σ.2.2.1 (4000 + 16 * k)) x2) st67 = some ex67 → ∀ (H : Heap) (locs : List Loc), PIC D clsA G dsc ad (sgX10_next_p4 σ (st67.2)) H → va_S A s.heap H locs → ∀ (ls : Array Slot), lv_has ls 7 [(0, .ref (ad 1464)), (1, .int x1), (2, .int x2), (3, .int (st67.1))] → (∀ (a41 : Nat → Int32), ex67 = a41 → ∀ (H : Heap) (locs : List Loc), PIC D clsA G dsc ad (sgX10_next_p4 σ a41) H → va_S A s.heap H locs → ∀ (ls : Array Slot), lv_has ls 7 [(0, .ref (ad 1464)), (1, .int x1), (2, .int x2)] → W p l e rmX10_next_p4 s m args below meth c0 H locs 0 0 Q (F0 m 201 ls [])) → W p l e rmX10_next_p4 s m args below meth c0 H locs 0 0 Q (F0 m 67 ls []) := by
      refine loop_P (fun st67 ex67 o67 hf ih67 hx67 => ?_)
      obtain ⟨y11, a12⟩ := st67
      intro H locs (hP : PIC D clsA G dsc ad (sgX10_next_p4 σ a12) H) hS ls (hl : lv_has ls 7 [(0, .ref (ad 1464)), (1, .int x1), (2, .int x2), (3, .int y11)]) KE67_0
      dsimp only [xo_X10_next_p4_L67] at hf
      refine lv_iload_n hx hb dX10_next_67 rfl (lv_at hl 3 rfl) ?_
      refine lv_if_eq (tgt := 201) hx hb dX10_next_68 (by decide) (fun c13 => ?_) (fun c13 => ?_)
      · have hf := ifT c13 hf
        exact KE67_0 _ (hx67 _ (Option.some.inj hf).symm).symm H locs hP hS ls (lv_sub hl [0, 1, 2] rfl)
      · have hf := ifF c13 hf
        refine lv_iconst hx hb dX10_next_71 ic_0 ?_
        refine lv_istore_n (lv' := [(3, .int 0), (0, .ref (ad 1464)), (1, .int x1), (2, .int x2)]) hx hb dX10_next_72 rfl hl (by decide) rfl (fun ls hl => ?_)
        refine lv_iconst hx hb dX10_next_73 ic_0 ?_
        refine lv_istore (lv' := [(4, .int 0), (3, .int 0), (0, .ref (ad 1464)), (1, .int x1), (2, .int x2)]) hx hb dX10_next_74 hl (by decide) rfl (fun ls hl => ?_)
        have LP76 : ∀ (st76 : Int32 × Int32 × (Nat → Int32)) (ex76 : (Int32 × (Nat → Int32))), loop (xo_X10_next_p4_L76 (σ.1 2008) (σ.2.2.1 1170) nr (fun k => σ.1 (6000 + 16 * k + 2)) (fun k => σ.1 (6000 + 16 * k + 5)) (fun k => σ.1 (6000 + 16 * k + 6)) (fun k => σ.2.2.1 (4000 + 16 * k)) x2) st76 = some ex76 → ∀ (H : Heap) (locs : List Loc), PIC D clsA G dsc ad (sgX10_next_p4 σ (st76.2.2)) H → va_S A s.heap H locs → ∀ (ls : Array Slot), lv_has ls 7 [(0, .ref (ad 1464)), (1, .int x1), (2, .int x2), (3, .int (st76.1)), (4, .int (st76.2.1))] → (∀ (y39 : Int32) (a40 : Nat → Int32), ex76 = (y39, a40) → ∀ (H : Heap) (locs : List Loc), PIC D clsA G dsc ad (sgX10_next_p4 σ a40) H → va_S A s.heap H locs → ∀ (ls : Array Slot), lv_has ls 7 [(0, .ref (ad 1464)), (1, .int x1), (2, .int x2), (3, .int y39)] → W p l e rmX10_next_p4 s m args below meth c0 H locs 0 0 Q (F0 m 198 ls [])) → W p l e rmX10_next_p4 s m args below meth c0 H locs 0 0 Q (F0 m 76 ls []) := by
          refine loop_P (fun st76 ex76 o76 hf ih76 hx76 => ?_)
          obtain ⟨y14, y15, a16⟩ := st76
          intro H locs (hP : PIC D clsA G dsc ad (sgX10_next_p4 σ a16) H) hS ls (hl : lv_has ls 7 [(0, .ref (ad 1464)), (1, .int x1), (2, .int x2), (3, .int y14), (4, .int y15)]) KE76_0
          dsimp only [xo_X10_next_p4_L76] at hf
          refine lv_iload hx hb dX10_next_76 (lv_at hl 4 rfl) ?_
          refine lv_aload_n hx hb dX10_next_78 rfl (lv_at hl 0 rfl) ?_
          refine gx_X10_3_1464 E hX hD hP dX10_next_79 ?_
          refine gx_X10_19_1000 E hX hD hP dX10_next_82 ?_
          refine gx_X10_57_2000 (v := (σ.1 2008)) E hX hD hP sgX10_next_p4_rzI2008 dX10_next_85 ?_
          refine lv_icmp_ge (tgt := 198) hx hb dX10_next_88 (by decide) (fun c17 => ?_) (fun c17 => ?_)
          · have hf := ifT c17 hf
            exact KE76_0 _ _ (hx76 _ (Option.some.inj hf).symm).symm H locs hP hS ls (lv_sub hl [0, 1, 2, 3] rfl)
          · have hf := ifF c17 hf
            refine lv_iconst hx hb dX10_next_91 ic_0 ?_
            refine lv_istore (lv' := [(5, .int 0), (0, .ref (ad 1464)), (1, .int x1), (2, .int x2), (3, .int y14), (4, .int y15)]) hx hb dX10_next_92 hl (by decide) rfl (fun ls hl => ?_)
            have LP94 : ∀ (st94 : Int32 × Int32 × (Nat → Int32)) (ex94 : (Int32 × (Nat → Int32))), loop (xo_X10_next_p4_L94 (σ.1 2008) (σ.2.2.1 1170) nr (fun k => σ.1 (6000 + 16 * k + 2)) (fun k => σ.1 (6000 + 16 * k + 5)) (fun k => σ.1 (6000 + 16 * k + 6)) (fun k => σ.2.2.1 (4000 + 16 * k)) x2 y15) st94 = some ex94 → ∀ (H : Heap) (locs : List Loc), PIC D clsA G dsc ad (sgX10_next_p4 σ (st94.2.2)) H → va_S A s.heap H locs → ∀ (ls : Array Slot), lv_has ls 7 [(0, .ref (ad 1464)), (1, .int x1), (2, .int x2), (3, .int (st94.1)), (4, .int y15), (5, .int (st94.2.1))] → (∀ (y36 : Int32) (a37 : Nat → Int32), ex94 = (y36, a37) → ∀ (H : Heap) (locs : List Loc), PIC D clsA G dsc ad (sgX10_next_p4 σ a37) H → va_S A s.heap H locs → ∀ (ls : Array Slot), lv_has ls 7 [(0, .ref (ad 1464)), (1, .int x1), (2, .int x2), (3, .int y36), (4, .int y15)] → W p l e rmX10_next_p4 s m args below meth c0 H locs 0 0 Q (F0 m 192 ls [])) → W p l e rmX10_next_p4 s m args below meth c0 H locs 0 0 Q (F0 m 94 ls []) := by
              refine loop_P (fun st94 ex94 o94 hf ih94 hx94 => ?_)
              obtain ⟨y18, y19, a20⟩ := st94
              intro H locs (hP : PIC D clsA G dsc ad (sgX10_next_p4 σ a20) H) hS ls (hl : lv_has ls 7 [(0, .ref (ad 1464)), (1, .int x1), (2, .int x2), (3, .int y18), (4, .int y15), (5, .int y19)]) KE94_0
              dsimp only [xo_X10_next_p4_L94] at hf
              refine lv_iload hx hb dX10_next_94 (lv_at hl 5 rfl) ?_
              refine lv_aload_n hx hb dX10_next_96 rfl (lv_at hl 0 rfl) ?_
              refine gx_X10_3_1464 E hX hD hP dX10_next_97 ?_
              refine gx_X10_19_1000 E hX hD hP dX10_next_100 ?_
              refine gx_X10_57_2000 (v := (σ.1 2008)) E hX hD hP sgX10_next_p4_rzI2008 dX10_next_103 ?_
              refine lv_icmp_ge (tgt := 192) hx hb dX10_next_106 (by decide) (fun c21 => ?_) (fun c21 => ?_)
              · have hf := ifT c21 hf
                exact KE94_0 _ _ (hx94 _ (Option.some.inj hf).symm).symm H locs hP hS ls (lv_sub hl [0, 1, 2, 3, 4] rfl)
              · have hf := ifF c21 hf
                refine lv_aload_n hx hb dX10_next_109 rfl (lv_at hl 0 rfl) ?_
                refine gx_X10_15_1464 E hX hD hP dX10_next_110 ?_
                refine lv_iload hx hb dX10_next_113 (lv_at hl 5 rfl) ?_
                obtain ⟨v22, hv22, hf⟩ := bdP hf
                refine p_iald hx hb hX.1 hP (hD.1 _ _ dX_1163) sgX10_next_p4_raI1163 hv22 dX10_next_115 ?_
                refine lv_ldc hx hb hown (hts _ q1205) dX10_next_116 ?_
                have J135 : ∀ (k23 : Int32), xo_X10_next_p4_J135 y15 y18 y19 a20 k23 = some o94 → ∀ (H : Heap) (locs : List Loc), PIC D clsA G dsc ad (sgX10_next_p4 σ a20) H → va_S A s.heap H locs → ∀ (ls : Array Slot), lv_has ls 7 [(0, .ref (ad 1464)), (1, .int x1), (2, .int x2), (3, .int y18), (4, .int y15), (5, .int y19)] → W p l e rmX10_next_p4 s m args below meth c0 H locs 0 0 Q (F0 m 135 ls [.int k23]) := by
                  intro k23 hf H locs hP hS ls hl
                  unfold xo_X10_next_p4_J135 at hf
                  refine lv_istore (lv' := [(6, .int k23), (0, .ref (ad 1464)), (1, .int x1), (2, .int x2), (3, .int y18), (4, .int y15), (5, .int y19)]) hx hb dX10_next_135 hl (by decide) rfl (fun ls hl => ?_)
                  refine lv_iload hx hb dX10_next_137 (lv_at hl 0 rfl) ?_
                  refine lv_ldc hx hb hown (hts _ q1205) dX10_next_139 ?_
                  have J186 : ∀ (y24 : Int32) (a25 : Nat → Int32), xo_X10_next_p4_J186 y19 y24 a25 = some o94 → ∀ (H : Heap) (locs : List Loc), PIC D clsA G dsc ad (sgX10_next_p4 σ a25) H → va_S A s.heap H locs → ∀ (ls : Array Slot), lv_has ls 7 [(0, .ref (ad 1464)), (1, .int x1), (2, .int x2), (3, .int y24), (4, .int y15), (5, .int y19)] → W p l e rmX10_next_p4 s m args below meth c0 H locs 0 0 Q (F0 m 186 ls []) := by
                    intro y24 a25 hf H locs hP hS ls hl
                    unfold xo_X10_next_p4_J186 at hf
                    obtain ⟨v26, hv26, hf⟩ := bdP hf
                    refine lv_iinc (v := v26) (lv' := [(5, .int v26), (0, .ref (ad 1464)), (1, .int x1), (2, .int x2), (3, .int y24), (4, .int y15)]) hx hb dX10_next_186 hl (k := 5) rfl (Option.some.inj hv26) (by decide) rfl (fun ls hl => ?_)
                    refine lv_goto (tgt := 94) hx hb dX10_next_189 (by decide) ?_
                    exact ih94 _ (Option.some.inj hf).symm H locs hP hS ls (lv_sub hl [1, 2, 3, 4, 5, 0] rfl) KE94_0
                  refine lv_icmp_eq (tgt := 186) hx hb dX10_next_141 (by decide) (fun c27 => ?_) (fun c27 => ?_)
                  · have hf := ifT c27 hf
                    exact J186 y18 a20 hf H locs hP hS ls (lv_sub hl [1, 2, 3, 4, 5, 6] rfl)
                  · have hf := ifF c27 hf
                    refine lv_aload_n hx hb dX10_next_144 rfl (lv_at hl 1 rfl) ?_
                    refine gx_X10_15_1464 E hX hD hP dX10_next_145 ?_
                    refine lv_iload hx hb dX10_next_148 (lv_at hl 6 rfl) ?_
                    obtain ⟨v28, hv28, hf⟩ := bdP hf
                    refine p_iald hx hb hX.1 hP (hD.1 _ _ dX_1163) sgX10_next_p4_raI1163 hv28 dX10_next_150 ?_
                    refine lv_iload hx hb dX10_next_151 (lv_at hl 0 rfl) ?_
                    refine lv_iadd hx hb dX10_next_153 ?_
                    refine lv_aload_n hx hb dX10_next_154 rfl (lv_at hl 1 rfl) ?_
                    refine gx_X10_15_1464 E hX hD hP dX10_next_155 ?_
                    refine lv_iload hx hb dX10_next_158 (lv_at hl 5 rfl) ?_
                    obtain ⟨v29, hv29, hf⟩ := bdP hf
                    refine p_iald hx hb hX.1 hP (hD.1 _ _ dX_1163) sgX10_next_p4_raI1163 hv29 dX10_next_160 ?_
                    refine lv_icmp_lt (tgt := 167) hx hb dX10_next_161 (by decide) (fun c30 => ?_) (fun c30 => ?_)
                    · have hf := ifT c30 hf
                      refine lv_aload_n hx hb dX10_next_167 rfl (lv_at hl 1 rfl) ?_
                      refine gx_X10_15_1464 E hX hD hP dX10_next_168 ?_
                      refine lv_iload hx hb dX10_next_171 (lv_at hl 5 rfl) ?_
                      refine lv_aload_n hx hb dX10_next_173 rfl (lv_at hl 1 rfl) ?_
                      refine gx_X10_15_1464 E hX hD hP dX10_next_174 ?_
                      refine lv_iload hx hb dX10_next_177 (lv_at hl 6 rfl) ?_
                      obtain ⟨v31, hv31, hf⟩ := bdP hf
                      refine p_iald hx hb hX.1 hP (hD.1 _ _ dX_1163) sgX10_next_p4_raI1163 hv31 dX10_next_179 ?_
                      refine lv_iload hx hb dX10_next_180 (lv_at hl 0 rfl) ?_
                      refine lv_iadd hx hb dX10_next_182 ?_
                      obtain ⟨a32, ha32, hf⟩ := bdP hf
                      refine p_iast hx hb hX.1 hP hS (hA _ (PA_c (hD.1 _ _ dX_1163))) (hD.1 _ _ dX_1163) sgX10_next_p4_raI1163 ha32 sgX10_next_p4_aI1163 dX10_next_183 (fun H locs hP hS => ?_)
                      refine lv_iconst hx hb dX10_next_184 ic_1 ?_
                      refine lv_istore_n (lv' := [(3, .int 1), (6, .int k23), (0, .ref (ad 1464)), (1, .int x1), (2, .int x2), (4, .int y15), (5, .int y19)]) hx hb dX10_next_185 rfl hl (by decide) rfl (fun ls hl => ?_)
                      exact J186 1 a32 hf H locs hP hS ls (lv_sub hl [2, 3, 4, 0, 5, 6] rfl)
                    · have hf := ifF c30 hf
                      refine lv_goto (tgt := 186) hx hb dX10_next_164 (by decide) ?_
                      exact J186 y18 a20 hf H locs hP hS ls (lv_sub hl [1, 2, 3, 4, 5, 6] rfl)
                refine lv_icmp_ne (tgt := 126) hx hb dX10_next_118 (by decide) (fun c33 => ?_) (fun c33 => ?_)
                · have hf := ifF c33 hf
                  refine lv_aload_n hx hb dX10_next_126 rfl (lv_at hl 0 rfl) ?_
                  refine lv_iload hx hb dX10_next_127 (lv_at hl 4 rfl) ?_
                  refine lv_iload hx hb dX10_next_129 (lv_at hl 5 rfl) ?_
                  refine lv_iload_n hx hb dX10_next_131 rfl (lv_at hl 2 rfl) ?_
                  obtain ⟨v34, u35, hf⟩ := bdP hf
                  refine cx_X10_60_X10_cost_p4 E hX hD hP hS hA (kxX10_cost_p4 l D G hD sgX10_next_p4_raI1170 rfl sgX10_next_p4_rpR2 sgX10_next_p4_rpR5 sgX10_next_p4_rpR6 sgX10_next_p4_rgG0 u35) ⟨rfl, rfl⟩ ⟨Nat.le_of_ble_eq_true rfl, Nat.le_of_ble_eq_true rfl⟩ ⟨Nat.zero_le _, Nat.zero_le _⟩ hl.1 (Nat.le_of_ble_eq_true rfl) dX10_next_132 (fun H locs hP hS => ?_)
                  exact J135 v34 hf H locs hP hS ls (lv_sub hl [0, 1, 2, 3, 4, 5] rfl)
                · have hf := ifT c33 hf
                  refine lv_ldc hx hb hown (hts _ q1205) dX10_next_121 ?_
                  refine lv_goto (tgt := 135) hx hb dX10_next_123 (by decide) ?_
                  exact J135 1000000 hf H locs hP hS ls (lv_sub hl [0, 1, 2, 3, 4, 5] rfl)
            obtain ⟨ex94, hlp94, hf⟩ := bdP hf
            refine LP94 (y14, 0, a16) ex94 hlp94 H locs hP hS ls (lv_sub hl [1, 2, 3, 4, 5, 0] rfl) ?_
            intro y36 a37 hex94 H locs hP hS ls hl
            subst ex94
            dsimp only at hf
            obtain ⟨v38, hv38, hf⟩ := bdP hf
            refine lv_iinc (v := v38) (lv' := [(4, .int v38), (0, .ref (ad 1464)), (1, .int x1), (2, .int x2), (3, .int y36)]) hx hb dX10_next_192 hl (k := 4) rfl (Option.some.inj hv38) (by decide) rfl (fun ls hl => ?_)
            refine lv_goto (tgt := 76) hx hb dX10_next_195 (by decide) ?_
            exact ih76 _ (Option.some.inj hf).symm H locs hP hS ls (lv_sub hl [1, 2, 3, 4, 0] rfl) KE76_0
        obtain ⟨ex76, hlp76, hf⟩ := bdP hf
        refine LP76 (0, 0, a12) ex76 hlp76 H locs hP hS ls (lv_sub hl [2, 3, 4, 1, 0] rfl) ?_
        intro y39 a40 hex76 H locs hP hS ls hl
        subst ex76
        dsimp only at hf
        refine lv_goto (tgt := 67) hx hb dX10_next_198 (by decide) ?_
        exact ih67 _ (Option.some.inj hf).symm H locs hP hS ls (lv_sub hl [0, 1, 2, 3] rfl) KE67_0
    obtain ⟨ex67, hlp67, hf⟩ := bdP hf
    refine LP67 (1, a10) ex67 hlp67 H locs hP hS ls (lv_sub hl [1, 2, 3, 0] rfl) ?_
    intro a41 hex67 H locs hP hS ls hl
    subst ex67
    refine lv_iconst hx hb dX10_next_201 ic_0 ?_
    refine lv_istore (lv' := [(4, .int 0), (0, .ref (ad 1464)), (1, .int x1), (2, .int x2)]) hx hb dX10_next_202 hl (by decide) rfl (fun ls hl => ?_)
    have LP204 : ∀ (st204 : Int32) (ex204 : (Int32) ⊕ (Unit)), loop (xo_X10_next_p4_L204 (σ.1 2008) (σ.2.2.1 1170) nr (fun k => σ.1 (6000 + 16 * k + 2)) (fun k => σ.1 (6000 + 16 * k + 5)) (fun k => σ.1 (6000 + 16 * k + 6)) (fun k => σ.2.2.1 (4000 + 16 * k)) x1 x2 a41) st204 = some ex204 → ∀ (H : Heap) (locs : List Loc), PIC D clsA G dsc ad (sgX10_next_p4 σ a41) H → va_S A s.heap H locs → ∀ (ls : Array Slot), lv_has ls 7 [(0, .ref (ad 1464)), (1, .int x1), (2, .int x2), (4, .int st204)] → (∀ (y57 : Int32), ex204 = (.inl y57) → ∀ (H : Heap) (locs : List Loc), PIC D clsA G dsc ad (sgX10_next_p4 σ a41) H → va_S A s.heap H locs → ∀ (ls : Array Slot), lv_has ls 7 [(4, .int y57)] → W p l e rmX10_next_p4 s m args below meth c0 H locs 0 0 Q (F0 m 280 ls [])) → (ex204 = (.inr ()) → ∀ (H : Heap) (locs : List Loc), PIC D clsA G dsc ad (sgX10_next_p4 σ a41) H → va_S A s.heap H locs → ∀ (ls : Array Slot), lv_has ls 7 [] → W p l e rmX10_next_p4 s m args below meth c0 H locs 0 0 Q (F0 m 289 ls [])) → W p l e rmX10_next_p4 s m args below meth c0 H locs 0 0 Q (F0 m 204 ls []) := by
      refine loop_P (fun st204 ex204 o204 hf ih204 hx204 => ?_)
      obtain ⟨y42, rfl⟩ : ∃ z, z = st204 := ⟨_, rfl⟩
      intro H locs (hP : PIC D clsA G dsc ad (sgX10_next_p4 σ a41) H) hS ls (hl : lv_has ls 7 [(0, .ref (ad 1464)), (1, .int x1), (2, .int x2), (4, .int y42)]) KE204_0 KE204_1
      dsimp only [xo_X10_next_p4_L204] at hf
      refine lv_iload hx hb dX10_next_204 (lv_at hl 3 rfl) ?_
      refine lv_aload_n hx hb dX10_next_206 rfl (lv_at hl 0 rfl) ?_
      refine gx_X10_3_1464 E hX hD hP dX10_next_207 ?_
      refine gx_X10_19_1000 E hX hD hP dX10_next_210 ?_
      refine gx_X10_57_2000 (v := (σ.1 2008)) E hX hD hP sgX10_next_p4_rzI2008 dX10_next_213 ?_
      refine lv_icmp_ge (tgt := 289) hx hb dX10_next_216 (by decide) (fun c43 => ?_) (fun c43 => ?_)
      · have hf := ifT c43 hf
        exact KE204_1  (hx204 _ (Option.some.inj hf).symm).symm H locs hP hS ls (lv_sub hl [] rfl)
      · have hf := ifF c43 hf
        refine lv_aload_n hx hb dX10_next_219 rfl (lv_at hl 0 rfl) ?_
        refine gx_X10_15_1464 E hX hD hP dX10_next_220 ?_
        refine lv_iload_n hx hb dX10_next_223 rfl (lv_at hl 1 rfl) ?_
        obtain ⟨v44, hv44, hf⟩ := bdP hf
        refine p_iald hx hb hX.1 hP (hD.1 _ _ dX_1163) sgX10_next_p4_raI1163 hv44 dX10_next_224 ?_
        refine lv_ldc hx hb hown (hts _ q1205) dX10_next_225 ?_
        refine lv_icmp_ge (tgt := 289) hx hb dX10_next_227 (by decide) (fun c45 => ?_) (fun c45 => ?_)
        · have hf := ifT c45 hf
          exact KE204_1  (hx204 _ (Option.some.inj hf).symm).symm H locs hP hS ls (lv_sub hl [] rfl)
        · have hf := ifF c45 hf
          refine lv_aload_n hx hb dX10_next_230 rfl (lv_at hl 0 rfl) ?_
          refine gx_X10_15_1464 E hX hD hP dX10_next_231 ?_
          refine lv_iload hx hb dX10_next_234 (lv_at hl 3 rfl) ?_
          obtain ⟨v46, hv46, hf⟩ := bdP hf
          refine p_iald hx hb hX.1 hP (hD.1 _ _ dX_1163) sgX10_next_p4_raI1163 hv46 dX10_next_236 ?_
          refine lv_ldc hx hb hown (hts _ q1205) dX10_next_237 ?_
          have J283 : xo_X10_next_p4_J283 y42 = some o204 → ∀ (H : Heap) (locs : List Loc), PIC D clsA G dsc ad (sgX10_next_p4 σ a41) H → va_S A s.heap H locs → ∀ (ls : Array Slot), lv_has ls 7 [(0, .ref (ad 1464)), (1, .int x1), (2, .int x2), (4, .int y42)] → W p l e rmX10_next_p4 s m args below meth c0 H locs 0 0 Q (F0 m 283 ls []) := by
            intro  hf H locs hP hS ls hl
            unfold xo_X10_next_p4_J283 at hf
            obtain ⟨v47, hv47, hf⟩ := bdP hf
            refine lv_iinc (v := v47) (lv' := [(4, .int v47), (0, .ref (ad 1464)), (1, .int x1), (2, .int x2)]) hx hb dX10_next_283 hl (k := 3) rfl (Option.some.inj hv47) (by decide) rfl (fun ls hl => ?_)
            refine lv_goto (tgt := 204) hx hb dX10_next_286 (by decide) ?_
            exact ih204 _ (Option.some.inj hf).symm H locs hP hS ls (lv_sub hl [1, 2, 3, 0] rfl) KE204_0 KE204_1
          refine lv_icmp_ge (tgt := 283) hx hb dX10_next_239 (by decide) (fun c48 => ?_) (fun c48 => ?_)
          · have hf := ifT c48 hf
            exact J283  hf H locs hP hS ls (lv_sub hl [0, 1, 2, 3] rfl)
          · have hf := ifF c48 hf
            refine lv_aload_n hx hb dX10_next_242 rfl (lv_at hl 0 rfl) ?_
            refine lv_iload_n hx hb dX10_next_243 rfl (lv_at hl 1 rfl) ?_
            refine lv_iload hx hb dX10_next_244 (lv_at hl 3 rfl) ?_
            refine lv_iload_n hx hb dX10_next_246 rfl (lv_at hl 2 rfl) ?_
            obtain ⟨v49, u50, hf⟩ := bdP hf
            refine cx_X10_60_X10_cost_p4 E hX hD hP hS hA (kxX10_cost_p4 l D G hD sgX10_next_p4_raI1170 rfl sgX10_next_p4_rpR2 sgX10_next_p4_rpR5 sgX10_next_p4_rpR6 sgX10_next_p4_rgG0 u50) ⟨rfl, rfl⟩ ⟨Nat.le_of_ble_eq_true rfl, Nat.le_of_ble_eq_true rfl⟩ ⟨Nat.zero_le _, Nat.zero_le _⟩ hl.1 (Nat.le_of_ble_eq_true rfl) dX10_next_247 (fun H locs hP hS => ?_)
            refine lv_ldc hx hb hown (hts _ q1205) dX10_next_250 ?_
            refine lv_icmp_ge (tgt := 283) hx hb dX10_next_252 (by decide) (fun c51 => ?_) (fun c51 => ?_)
            · have hf := ifT c51 hf
              exact J283  hf H locs hP hS ls (lv_sub hl [0, 1, 2, 3] rfl)
            · have hf := ifF c51 hf
              refine lv_aload_n hx hb dX10_next_255 rfl (lv_at hl 0 rfl) ?_
              refine lv_iload_n hx hb dX10_next_256 rfl (lv_at hl 1 rfl) ?_
              refine lv_iload hx hb dX10_next_257 (lv_at hl 3 rfl) ?_
              refine lv_iload_n hx hb dX10_next_259 rfl (lv_at hl 2 rfl) ?_
              obtain ⟨v52, u53, hf⟩ := bdP hf
              refine cx_X10_60_X10_cost_p4 E hX hD hP hS hA (kxX10_cost_p4 l D G hD sgX10_next_p4_raI1170 rfl sgX10_next_p4_rpR2 sgX10_next_p4_rpR5 sgX10_next_p4_rpR6 sgX10_next_p4_rgG0 u53) ⟨rfl, rfl⟩ ⟨Nat.le_of_ble_eq_true rfl, Nat.le_of_ble_eq_true rfl⟩ ⟨Nat.zero_le _, Nat.zero_le _⟩ hl.1 (Nat.le_of_ble_eq_true rfl) dX10_next_260 (fun H locs hP hS => ?_)
              refine lv_aload_n hx hb dX10_next_263 rfl (lv_at hl 0 rfl) ?_
              refine gx_X10_15_1464 E hX hD hP dX10_next_264 ?_
              refine lv_iload hx hb dX10_next_267 (lv_at hl 3 rfl) ?_
              obtain ⟨v54, hv54, hf⟩ := bdP hf
              refine p_iald hx hb hX.1 hP (hD.1 _ _ dX_1163) sgX10_next_p4_raI1163 hv54 dX10_next_269 ?_
              refine lv_iadd hx hb dX10_next_270 ?_
              refine lv_aload_n hx hb dX10_next_271 rfl (lv_at hl 0 rfl) ?_
              refine gx_X10_15_1464 E hX hD hP dX10_next_272 ?_
              refine lv_iload_n hx hb dX10_next_275 rfl (lv_at hl 1 rfl) ?_
              obtain ⟨v55, hv55, hf⟩ := bdP hf
              refine p_iald hx hb hX.1 hP (hD.1 _ _ dX_1163) sgX10_next_p4_raI1163 hv55 dX10_next_276 ?_
              refine lv_icmp_ne (tgt := 283) hx hb dX10_next_277 (by decide) (fun c56 => ?_) (fun c56 => ?_)
              · have hf := ifF c56 hf
                exact J283  hf H locs hP hS ls (lv_sub hl [0, 1, 2, 3] rfl)
              · have hf := ifT c56 hf
                exact KE204_0 _ (hx204 _ (Option.some.inj hf).symm).symm H locs hP hS ls (lv_sub hl [3] rfl)
    obtain ⟨ex204, hlp204, hf⟩ := bdP hf
    refine LP204 0 ex204 hlp204 H locs hP hS ls (lv_sub hl [1, 2, 3, 0] rfl) ?_ ?_
    · intro y57 hex204 H locs hP hS ls hl
      subst ex204
      dsimp only [sE_l, sE_r] at hf
      refine lv_iload hx hb dX10_next_280 (lv_at hl 0 rfl) ?_
      cases hf
      rw [hQ]; exact g_iret hx hb hr hlk hP hS dX10_next_282
    · intro  hex204 H locs hP hS ls hl
      subst ex204
      dsimp only [sE_l, sE_r] at hf
      refine lv_bipush hx hb dX10_next_289 bp_m2 ?_
      cases hf
      rw [hQ]; exact g_iret hx hb hr hlk hP hS dX10_next_291
  · have hf := ifT c1 hf
    refine lv_bipush hx hb dX10_next_14 bp_m2 ?_
    cases hf
    rw [hQ]; exact g_iret hx hb hr hlk hP hS dX10_next_16
theorem kxX10_next_p4 (l : Launch) (D : va_G) (G : Nat → ClassId) {dsc : Nat → Option Dsc} {ad : Nat → Nat} {σ : Sto} {nr nw nu : Nat} (hD : XD dsc nr nw nu) {x1 : Int32} {x2 : Int32} {r_ : Int32} {w_aI1163 : Nat → Int32} {z_L_places : Int32} (e_zI2008 : σ.1 2008 = z_L_places) {z_L_to : Int32} (e_zI2013 : σ.1 2013 = z_L_to) {a_p4_far : Nat → Int32} (e_aI1163 : σ.2.2.1 1163 = a_p4_far) {a_UNIT : Nat → Int32} (e_aI1170 : σ.2.2.1 1170 = a_UNIT) {n_r : Nat} (e_nN0 : nr = n_r) {p_road_hours : Nat → Int32} (e_pR2 : (fun k => σ.1 (6000 + 16 * k + 2)) = p_road_hours) {p_road_wait : Nat → Int32} (e_pR5 : (fun k => σ.1 (6000 + 16 * k + 5)) = p_road_wait) {p_road_number : Nat → Int32} (e_pR6 : (fun k => σ.1 (6000 + 16 * k + 6)) = p_road_number) {g_grid : Nat → Nat → Int32} (e_gG0 : (fun k => σ.2.2.1 (4000 + 16 * k)) = g_grid) (hf : xo_X10_next_p4 z_L_places z_L_to a_p4_far a_UNIT n_r p_road_hours p_road_wait p_road_number g_grid x1 x2 = some (r_, w_aI1163)) : CtG l D G dsc ad yX10_next (ws_ yX10_next cX10_next 7 (Option.some Jvm.ClassFile.FieldType.int)) rmX10_next_p4 [.ref (ad 1464), .int x1, .int x2] σ (some (.int r_)) (aI σ 1163 w_aI1163) := by
  subst e_zI2008
  subst e_zI2013
  subst e_aI1163
  subst e_aI1170
  subst e_nN0
  subst e_pR2
  subst e_pR5
  subst e_pR6
  subst e_gG0
  exact p_ctG (by decide +kernel) (Nat.le_of_ble_eq_true rfl) (fun p e s m below meth c0 ls A E hP hX hA hS hl => wkX10_next_p4 E hX hD hA hf rfl hP hS hl)
theorem gx_X9_3_1464 (E : EN p s m args meth c0 RX9 cc nL ret) (hX : KX D G ad A s s.heap) (hD : XD dsc nr nw nu) (hP : PIC D clsA G dsc ad σ H) (hdg : decode cc pc = .ok (.getfield 3, 3)) (kk : W p l e R s m args below meth c0 H locs cells slots Q (F0 m (pc + 3) ls (.ref (ad 1000) :: rest))) : W p l e R s m args below meth c0 H locs cells slots Q (F0 m pc ls (.ref (ad 1464) :: rest)) :=
  p_get E.1.1 E.1.2.1 E.1.2.2.2.2 in_X11 E.1.2.2.2.1 hX.1 hP (hD.1 _ _ dX_1464) rfl 2 (by decide) (E.1.2.2.2.2 _ q435) (fun _ h => h) rfl rfl hdg kk
theorem cx_X9_32_X10_next_p4 {rm : Room} {σ1 : Sto} {x1 : Int32} {x2 : Int32} {r : Int32} (E : EN p s m args meth c0 RX9 cc nL ret) (hX : KX D G ad A s s.heap) (hD : XD dsc nr nw nu) (hP : PIC D clsA G dsc ad σ H) (hS : va_S A s.heap H locs) (hA : ∀ q, PA dsc ad s.heap.size q → A q) (hM : CtG l D G dsc ad yX10_next (ws_ yX10_next cX10_next 7 (Option.some Jvm.ClassFile.FieldType.int)) rm [.ref (ad 1464), .int x1, .int x2] σ (some (.int r)) σ1) (hz : rm.cells = 0 ∧ rm.slots = 0) (hR : rm.frames + 1 ≤ R.frames ∧ 8 + (7 + 11) + rm.locals ≤ R.locals) (hcs : cells ≤ R.cells ∧ slots ≤ R.slots) (hsz : ls.size = nL) (hW : (rest.map fun v => v.category).sum ≤ 8) (hdg : decode cc pc = .ok (.invokevirtual 32, 3)) (kk : ∀ (H1 : Heap) (locs1 : List Loc), PIC D clsA G dsc ad σ1 H1 → va_S A s.heap H1 locs1 → W p l e R s m args below meth c0 H1 locs1 cells slots Q (F0 m (pc + 3) ls (.int r :: rest))) : W p l e R s m args below meth c0 H locs cells slots Q (F0 m pc ls (.int x2 :: .int x1 :: .ref (ad 1464) :: rest)) :=
  p_gU (As := [.int x1, .int x2]) (rest := rest) E.1 hX hP hS hA hM (cw_any (owner := "ShutPasses$Plan") (x := ⟨"ShutPasses$Plan", "next", "(II)I"⟩) (y := yX10_next) (C := "ShutPasses$Fear") (index := 32) (own := RX9) 2 E.1.2.2.2.2 (lw_meth q1204) rfl hz.1 hz.2 (E.1.2.2.2.2 _ q1288) (E.1.2.2.2.2 _ q1290) (va_Decl.abs (hX.2.1.1 _ q1289 rfl)) (E.1.2.2.2.2 _ q1310) (E.1.2.2.2.2 _ q1203) (E.1.2.2.2.2 _ q136) (by decide +kernel) hR) (hD.1 _ _ dX_1464) rfl rfl rfl hsz rfl hW hdg hcs kk
/-! X9_hours_p4 (I)I -/
def sgX9_hours_p4 (σ : Sto) (w0 : Nat → Int32) : Sto := aI σ 1163 w0
theorem sgX9_hours_p4_self (σ : Sto) : sgX9_hours_p4 σ (σ.2.2.1 1163) = σ := by
  unfold sgX9_hours_p4
  simp only [zI_self, zL_self, aI_self, aL_self]
theorem sgX9_hours_p4_aI1163 {σ : Sto} {w0 : Nat → Int32} {g : Nat → Int32} : aI (sgX9_hours_p4 σ w0) 1163 g = sgX9_hours_p4 σ g := aI_aI _ 1163 _ _
theorem sgX9_hours_p4_rzI2008 {σ : Sto} {w0 : Nat → Int32} : (sgX9_hours_p4 σ w0).1 2008 = σ.1 2008 := rfl
theorem sgX9_hours_p4_rzI2012 {σ : Sto} {w0 : Nat → Int32} : (sgX9_hours_p4 σ w0).1 2012 = σ.1 2012 := rfl
theorem sgX9_hours_p4_rzI2013 {σ : Sto} {w0 : Nat → Int32} : (sgX9_hours_p4 σ w0).1 2013 = σ.1 2013 := rfl
theorem sgX9_hours_p4_rzI2027 {σ : Sto} {w0 : Nat → Int32} : (sgX9_hours_p4 σ w0).1 2027 = σ.1 2027 := rfl
theorem sgX9_hours_p4_rzI2032 {σ : Sto} {w0 : Nat → Int32} : (sgX9_hours_p4 σ w0).1 2032 = σ.1 2032 := rfl
theorem sgX9_hours_p4_raI1163 {σ : Sto} {w0 : Nat → Int32} : (sgX9_hours_p4 σ w0).2.2.1 1163 = w0 := rfl
theorem sgX9_hours_p4_raI1170 {σ : Sto} {w0 : Nat → Int32} : (sgX9_hours_p4 σ w0).2.2.1 1170 = σ.2.2.1 1170 := rfl
theorem sgX9_hours_p4_raI2037 {σ : Sto} {w0 : Nat → Int32} : (sgX9_hours_p4 σ w0).2.2.1 2037 = σ.2.2.1 2037 := rfl
theorem sgX9_hours_p4_raI2043 {σ : Sto} {w0 : Nat → Int32} : (sgX9_hours_p4 σ w0).2.2.1 2043 = σ.2.2.1 2043 := rfl
theorem sgX9_hours_p4_rpR2 {σ : Sto} {w0 : Nat → Int32} : (fun k => (sgX9_hours_p4 σ w0).1 (6000 + 16 * k + 2)) = (fun k => σ.1 (6000 + 16 * k + 2)) := by
  funext k
  unfold sgX9_hours_p4
  dsimp only [zI, zL, aI, aL]
  repeat rw [if_neg (by omega)]
theorem sgX9_hours_p4_rpR5 {σ : Sto} {w0 : Nat → Int32} : (fun k => (sgX9_hours_p4 σ w0).1 (6000 + 16 * k + 5)) = (fun k => σ.1 (6000 + 16 * k + 5)) := by
  funext k
  unfold sgX9_hours_p4
  dsimp only [zI, zL, aI, aL]
  repeat rw [if_neg (by omega)]
theorem sgX9_hours_p4_rpR6 {σ : Sto} {w0 : Nat → Int32} : (fun k => (sgX9_hours_p4 σ w0).1 (6000 + 16 * k + 6)) = (fun k => σ.1 (6000 + 16 * k + 6)) := by
  funext k
  unfold sgX9_hours_p4
  dsimp only [zI, zL, aI, aL]
  repeat rw [if_neg (by omega)]
theorem sgX9_hours_p4_rpW1 {σ : Sto} {w0 : Nat → Int32} : (fun k => (sgX9_hours_p4 σ w0).1 (8000 + 16 * k + 1)) = (fun k => σ.1 (8000 + 16 * k + 1)) := by
  funext k
  unfold sgX9_hours_p4
  dsimp only [zI, zL, aI, aL]
  repeat rw [if_neg (by omega)]
theorem sgX9_hours_p4_rpW2 {σ : Sto} {w0 : Nat → Int32} : (fun k => (sgX9_hours_p4 σ w0).1 (8000 + 16 * k + 2)) = (fun k => σ.1 (8000 + 16 * k + 2)) := by
  funext k
  unfold sgX9_hours_p4
  dsimp only [zI, zL, aI, aL]
  repeat rw [if_neg (by omega)]
theorem sgX9_hours_p4_rgG0 {σ : Sto} {w0 : Nat → Int32} : (fun k => (sgX9_hours_p4 σ w0).2.2.1 (4000 + 16 * k)) = (fun k => σ.2.2.1 (4000 + 16 * k)) := by
  funext k
  unfold sgX9_hours_p4
  dsimp only [zI, zL, aI, aL]
  repeat rw [if_neg (by omega)]
abbrev rmX9_hours_p4 : Room := { frames := 4, cells := 0, slots := 0, locals := 96 }
set_option maxHeartbeats 4000000 in
theorem wkX9_hours_p4 {x1 : Int32} {r_ : Int32} {w_aI1163 : Nat → Int32} (E : EN p s m args meth c0 RX9 cX9_hours 9 (Option.some Jvm.ClassFile.FieldType.int)) (hX : KX D G ad A s s.heap) (hD : XD dsc nr nw nu) (hA : ∀ q, PA dsc ad s.heap.size q → A q) (hf : xo_X9_hours_p4 (σ.1 2008) (σ.1 2012) (σ.1 2013) (σ.1 2027) (σ.1 2032) (σ.2.2.1 1163) (σ.2.2.1 1170) (σ.2.2.1 2037) (σ.2.2.1 2043) nr nw (fun k => σ.1 (6000 + 16 * k + 2)) (fun k => σ.1 (6000 + 16 * k + 5)) (fun k => σ.1 (6000 + 16 * k + 6)) (fun k => σ.1 (8000 + 16 * k + 1)) (fun k => σ.1 (8000 + 16 * k + 2)) (fun k => σ.2.2.1 (4000 + 16 * k)) x1 = some (r_, w_aI1163)) (hQ : Q = MQ below (va_G1 (some (.int r_)) (fun t => PIC D clsA G dsc ad (sgX9_hours_p4 σ w_aI1163) t.heap) A) args s 0 0 A) (hP : PIC D clsA G dsc ad σ H) (hS : va_S A s.heap H locs) (hl : lv_has ls 9 [(0, .ref (ad 1464)), (1, .int x1)]) : W p l e rmX9_hours_p4 s m args below meth c0 H locs 0 0 Q (F0 m 0 ls []) := by
  obtain ⟨⟨hx, hb, hml, hown, hts⟩, hr, hlk⟩ := id E
  have hP := hP.to (sgX9_hours_p4_self σ).symm
  unfold xo_X9_hours_p4 at hf
  refine lv_aload_n hx hb dX9_hours_0 rfl (lv_at hl 0 rfl) ?_
  refine gx_X9_3_1464 E hX hD hP dX9_hours_1 ?_
  refine gx_X9_15_1000 E hX hD hP dX9_hours_4 ?_
  refine gx_X9_19_2000 (v := (σ.1 2012)) E hX hD hP sgX9_hours_p4_rzI2012 dX9_hours_7 ?_
  refine lv_istore_n (lv' := [(2, .int (σ.1 2012)), (0, .ref (ad 1464)), (1, .int x1)]) hx hb dX9_hours_10 rfl hl (by decide) rfl (fun ls hl => ?_)
  refine lv_aload_n hx hb dX9_hours_11 rfl (lv_at hl 1 rfl) ?_
  refine gx_X9_3_1464 E hX hD hP dX9_hours_12 ?_
  refine lv_iload_n hx hb dX9_hours_15 rfl (lv_at hl 0 rfl) ?_
  refine lv_iconst hx hb dX9_hours_16 ic_0 ?_
  refine lv_iload_n hx hb dX9_hours_17 rfl (lv_at hl 2 rfl) ?_
  obtain ⟨v1, u2, hf⟩ := bdP hf
  refine cx_X9_25_X1_seeing E hX hD hP hS hA (kxX1_seeing l D G hD sgX9_hours_p4_rzI2027 sgX9_hours_p4_raI1170 sgX9_hours_p4_raI2043 u2) ⟨rfl, rfl⟩ ⟨Nat.le_of_ble_eq_true rfl, Nat.le_of_ble_eq_true rfl⟩ ⟨Nat.zero_le _, Nat.zero_le _⟩ hl.1 (Nat.le_of_ble_eq_true rfl) dX9_hours_18 (fun H locs hP hS => ?_)
  refine lv_istore_n (lv' := [(3, .int v1), (2, .int (σ.1 2012)), (0, .ref (ad 1464)), (1, .int x1)]) hx hb dX9_hours_21 rfl hl (by decide) rfl (fun ls hl => ?_)
  refine lv_iconst hx hb dX9_hours_22 ic_0 ?_
  refine lv_istore (lv' := [(4, .int 0), (3, .int v1), (2, .int (σ.1 2012)), (0, .ref (ad 1464)), (1, .int x1)]) hx hb dX9_hours_23 hl (by decide) rfl (fun ls hl => ?_)
  refine lv_iconst hx hb dX9_hours_25 ic_0 ?_
  refine lv_istore (lv' := [(5, .int 0), (4, .int 0), (3, .int v1), (2, .int (σ.1 2012)), (0, .ref (ad 1464)), (1, .int x1)]) hx hb dX9_hours_26 hl (by decide) rfl (fun ls hl => ?_)
  have LP28 : ∀ (st28 : Int32 × Int32 × Int32 × Int32 × (Nat → Int32)) (ex28 : ((Nat → Int32)) ⊕ (Int32 × (Nat → Int32))), loop (xo_X9_hours_p4_L28 (σ.1 2008) (σ.1 2013) (σ.1 2027) (σ.1 2032) (σ.2.2.1 1170) (σ.2.2.1 2037) (σ.2.2.1 2043) nr nw (fun k => σ.1 (6000 + 16 * k + 2)) (fun k => σ.1 (6000 + 16 * k + 5)) (fun k => σ.1 (6000 + 16 * k + 6)) (fun k => σ.1 (8000 + 16 * k + 1)) (fun k => σ.1 (8000 + 16 * k + 2)) (fun k => σ.2.2.1 (4000 + 16 * k)) x1) st28 = some ex28 → ∀ (H : Heap) (locs : List Loc), PIC D clsA G dsc ad (sgX9_hours_p4 σ (st28.2.2.2.2)) H → va_S A s.heap H locs → ∀ (ls : Array Slot), lv_has ls 9 [(0, .ref (ad 1464)), (1, .int x1), (2, .int (st28.1)), (3, .int (st28.2.1)), (4, .int (st28.2.2.1)), (5, .int (st28.2.2.2.1))] → (∀ (a34 : Nat → Int32), ex28 = (.inl a34) → ∀ (H : Heap) (locs : List Loc), PIC D clsA G dsc ad (sgX9_hours_p4 σ a34) H → va_S A s.heap H locs → ∀ (ls : Array Slot), lv_has ls 9 [] → W p l e rmX9_hours_p4 s m args below meth c0 H locs 0 0 Q (F0 m 64 ls [])) → (∀ (y35 : Int32) (a36 : Nat → Int32), ex28 = (.inr (y35, a36)) → ∀ (H : Heap) (locs : List Loc), PIC D clsA G dsc ad (sgX9_hours_p4 σ a36) H → va_S A s.heap H locs → ∀ (ls : Array Slot), lv_has ls 9 [(4, .int y35)] → W p l e rmX9_hours_p4 s m args below meth c0 H locs 0 0 Q (F0 m 186 ls [])) → W p l e rmX9_hours_p4 s m args below meth c0 H locs 0 0 Q (F0 m 28 ls []) := by
    refine loop_P (fun st28 ex28 o28 hf ih28 hx28 => ?_)
    obtain ⟨y3, y4, y5, y6, a7⟩ := st28
    intro H locs (hP : PIC D clsA G dsc ad (sgX9_hours_p4 σ a7) H) hS ls (hl : lv_has ls 9 [(0, .ref (ad 1464)), (1, .int x1), (2, .int y3), (3, .int y4), (4, .int y5), (5, .int y6)]) KE28_0 KE28_1
    dsimp only [xo_X9_hours_p4_L28] at hf
    refine lv_iload_n hx hb dX9_hours_28 rfl (lv_at hl 2 rfl) ?_
    refine lv_aload_n hx hb dX9_hours_29 rfl (lv_at hl 0 rfl) ?_
    refine gx_X9_3_1464 E hX hD hP dX9_hours_30 ?_
    refine gx_X9_15_1000 E hX hD hP dX9_hours_33 ?_
    refine gx_X9_29_2000 (v := (σ.1 2013)) E hX hD hP sgX9_hours_p4_rzI2013 dX9_hours_36 ?_
    refine lv_icmp_eq (tgt := 186) hx hb dX9_hours_39 (by decide) (fun c8 => ?_) (fun c8 => ?_)
    · have hf := ifT c8 hf
      exact KE28_1 _ _ (hx28 _ (Option.some.inj hf).symm).symm H locs hP hS ls (lv_sub hl [4] rfl)
    · have hf := ifF c8 hf
      refine lv_aload_n hx hb dX9_hours_42 rfl (lv_at hl 0 rfl) ?_
      refine lv_iload_n hx hb dX9_hours_43 rfl (lv_at hl 2 rfl) ?_
      refine lv_iload_n hx hb dX9_hours_44 rfl (lv_at hl 3 rfl) ?_
      obtain ⟨⟨v9, a10⟩, u11, hf⟩ := bdP hf
      dsimp only at hf
      refine cx_X9_32_X10_next_p4 E hX hD hP hS hA (kxX10_next_p4 l D G hD sgX9_hours_p4_rzI2008 sgX9_hours_p4_rzI2013 sgX9_hours_p4_raI1163 sgX9_hours_p4_raI1170 rfl sgX9_hours_p4_rpR2 sgX9_hours_p4_rpR5 sgX9_hours_p4_rpR6 sgX9_hours_p4_rgG0 u11) ⟨rfl, rfl⟩ ⟨Nat.le_of_ble_eq_true rfl, Nat.le_of_ble_eq_true rfl⟩ ⟨Nat.zero_le _, Nat.zero_le _⟩ hl.1 (Nat.le_of_ble_eq_true rfl) dX9_hours_45 (fun H locs hP hS => ?_)
      rw [sgX9_hours_p4_aI1163] at hP
      refine lv_istore (lv' := [(6, .int v9), (0, .ref (ad 1464)), (1, .int x1), (2, .int y3), (3, .int y4), (4, .int y5), (5, .int y6)]) hx hb dX9_hours_48 hl (by decide) rfl (fun ls hl => ?_)
      refine lv_iload hx hb dX9_hours_50 (lv_at hl 0 rfl) ?_
      refine lv_bipush hx hb dX9_hours_52 bp_m2 ?_
      refine lv_icmp_eq (tgt := 64) hx hb dX9_hours_54 (by decide) (fun c12 => ?_) (fun c12 => ?_)
      · have hf := ifT c12 hf
        exact KE28_0 _ (hx28 _ (Option.some.inj hf).symm).symm H locs hP hS ls (lv_sub hl [] rfl)
      · have hf := ifF c12 hf
        refine lv_iload hx hb dX9_hours_57 (lv_at hl 6 rfl) ?_
        refine lv_bipush hx hb dX9_hours_59 bp_10 ?_
        refine lv_icmp_le (tgt := 67) hx hb dX9_hours_61 (by decide) (fun c13 => ?_) (fun c13 => ?_)
        · have hf := ifT c13 hf
          refine lv_iload_n hx hb dX9_hours_67 rfl (lv_at hl 4 rfl) ?_
          refine lv_istore (lv' := [(7, .int y4), (6, .int v9), (0, .ref (ad 1464)), (1, .int x1), (2, .int y3), (3, .int y4), (4, .int y5), (5, .int y6)]) hx hb dX9_hours_68 hl (by decide) rfl (fun ls hl => ?_)
          refine lv_iload hx hb dX9_hours_70 (lv_at hl 1 rfl) ?_
          refine lv_bipush hx hb dX9_hours_72 bp_100 ?_
          have J167 : ∀ (y14 : Int32) (y15 : Int32) (y16 : Int32), xo_X9_hours_p4_J167 y4 y6 a10 y14 y15 y16 = some o28 → ∀ (H : Heap) (locs : List Loc), PIC D clsA G dsc ad (sgX9_hours_p4 σ a10) H → va_S A s.heap H locs → ∀ (ls : Array Slot), lv_has ls 9 [(0, .ref (ad 1464)), (1, .int x1), (2, .int y14), (3, .int y15), (4, .int y16), (5, .int y6), (7, .int y4)] → W p l e rmX9_hours_p4 s m args below meth c0 H locs 0 0 Q (F0 m 167 ls []) := by
            intro y14 y15 y16 hf H locs hP hS ls hl
            unfold xo_X9_hours_p4_J167 at hf
            refine lv_iload_n hx hb dX9_hours_167 rfl (lv_at hl 3 rfl) ?_
            refine lv_iload hx hb dX9_hours_168 (lv_at hl 6 rfl) ?_
            have J181 : ∀ (k17 : Int32), xo_X9_hours_p4_J181 a10 y14 y15 y16 k17 = some o28 → ∀ (H : Heap) (locs : List Loc), PIC D clsA G dsc ad (sgX9_hours_p4 σ a10) H → va_S A s.heap H locs → ∀ (ls : Array Slot), lv_has ls 9 [(0, .ref (ad 1464)), (1, .int x1), (2, .int y14), (3, .int y15), (4, .int y16)] → W p l e rmX9_hours_p4 s m args below meth c0 H locs 0 0 Q (F0 m 181 ls [.int k17]) := by
              intro k17 hf H locs hP hS ls hl
              unfold xo_X9_hours_p4_J181 at hf
              refine lv_istore (lv' := [(5, .int k17), (0, .ref (ad 1464)), (1, .int x1), (2, .int y14), (3, .int y15), (4, .int y16)]) hx hb dX9_hours_181 hl (by decide) rfl (fun ls hl => ?_)
              refine lv_goto (tgt := 28) hx hb dX9_hours_183 (by decide) ?_
              exact ih28 _ (Option.some.inj hf).symm H locs hP hS ls (lv_sub hl [1, 2, 3, 4, 5, 0] rfl) KE28_0 KE28_1
            refine lv_icmp_ne (tgt := 180) hx hb dX9_hours_170 (by decide) (fun c18 => ?_) (fun c18 => ?_)
            · have hf := ifF c18 hf
              refine lv_iconst hx hb dX9_hours_180 ic_0 ?_
              exact J181 0 hf H locs hP hS ls (lv_sub hl [0, 1, 2, 3, 4] rfl)
            · have hf := ifT c18 hf
              refine lv_iload hx hb dX9_hours_173 (lv_at hl 5 rfl) ?_
              refine lv_iconst hx hb dX9_hours_175 ic_1 ?_
              refine lv_iadd hx hb dX9_hours_176 ?_
              refine lv_goto (tgt := 181) hx hb dX9_hours_177 (by decide) ?_
              exact J181 (y6 + 1) hf H locs hP hS ls (lv_sub hl [0, 1, 2, 3, 4] rfl)
          refine lv_icmp_lt (tgt := 134) hx hb dX9_hours_74 (by decide) (fun c19 => ?_) (fun c19 => ?_)
          · have hf := ifT c19 hf
            refine lv_iload hx hb dX9_hours_134 (lv_at hl 6 rfl) ?_
            refine lv_aload_n hx hb dX9_hours_136 rfl (lv_at hl 2 rfl) ?_
            refine gx_X9_3_1464 E hX hD hP dX9_hours_137 ?_
            refine gx_X9_15_1000 E hX hD hP dX9_hours_140 ?_
            refine lv_iload_n hx hb dX9_hours_143 rfl (lv_at hl 4 rfl) ?_
            refine lv_iload hx hb dX9_hours_144 (lv_at hl 1 rfl) ?_
            refine lv_iload_n hx hb dX9_hours_146 rfl (lv_at hl 5 rfl) ?_
            obtain ⟨v20, u21, hf⟩ := bdP hf
            refine cx_X9_57_X3_cost E hX hD hP hS hA (kxX3_cost l D G hD sgX9_hours_p4_raI1170 rfl sgX9_hours_p4_rpR2 sgX9_hours_p4_rpR5 sgX9_hours_p4_rpR6 sgX9_hours_p4_rgG0 u21) ⟨rfl, rfl⟩ ⟨Nat.le_of_ble_eq_true rfl, Nat.le_of_ble_eq_true rfl⟩ ⟨Nat.zero_le _, Nat.zero_le _⟩ hl.1 (Nat.le_of_ble_eq_true rfl) dX9_hours_147 (fun H locs hP hS => ?_)
            refine lv_iadd hx hb dX9_hours_150 ?_
            obtain ⟨v22, hv22, hf⟩ := bdP hf
            refine nm_i (Option.some.inj hv22) ?_
            refine lv_istore (lv' := [(4, .int v22), (7, .int y4), (6, .int v9), (0, .ref (ad 1464)), (1, .int x1), (2, .int y3), (3, .int y4), (5, .int y6)]) hx hb dX9_hours_151 hl (by decide) rfl (fun ls hl => ?_)
            refine lv_iload hx hb dX9_hours_153 (lv_at hl 2 rfl) ?_
            refine lv_istore_n (lv' := [(2, .int v9), (4, .int v22), (7, .int y4), (6, .int v9), (0, .ref (ad 1464)), (1, .int x1), (3, .int y4), (5, .int y6)]) hx hb dX9_hours_155 rfl hl (by decide) rfl (fun ls hl => ?_)
            refine lv_aload_n hx hb dX9_hours_156 rfl (lv_at hl 4 rfl) ?_
            refine gx_X9_3_1464 E hX hD hP dX9_hours_157 ?_
            refine lv_iload_n hx hb dX9_hours_160 rfl (lv_at hl 0 rfl) ?_
            refine lv_iload_n hx hb dX9_hours_161 rfl (lv_at hl 6 rfl) ?_
            refine lv_iload_n hx hb dX9_hours_162 rfl (lv_at hl 5 rfl) ?_
            obtain ⟨v23, u24, hf⟩ := bdP hf
            refine cx_X9_25_X1_seeing E hX hD hP hS hA (kxX1_seeing l D G hD sgX9_hours_p4_rzI2027 sgX9_hours_p4_raI1170 sgX9_hours_p4_raI2043 u24) ⟨rfl, rfl⟩ ⟨Nat.le_of_ble_eq_true rfl, Nat.le_of_ble_eq_true rfl⟩ ⟨Nat.zero_le _, Nat.zero_le _⟩ hl.1 (Nat.le_of_ble_eq_true rfl) dX9_hours_163 (fun H locs hP hS => ?_)
            refine lv_istore_n (lv' := [(3, .int v23), (2, .int v9), (4, .int v22), (7, .int y4), (6, .int v9), (0, .ref (ad 1464)), (1, .int x1), (5, .int y6)]) hx hb dX9_hours_166 rfl hl (by decide) rfl (fun ls hl => ?_)
            exact J167 v9 v23 v22 hf H locs hP hS ls (lv_sub hl [5, 6, 1, 0, 2, 7, 3] rfl)
          · have hf := ifF c19 hf
            refine lv_aload_n hx hb dX9_hours_77 rfl (lv_at hl 2 rfl) ?_
            refine gx_X9_3_1464 E hX hD hP dX9_hours_78 ?_
            refine gx_X9_15_1000 E hX hD hP dX9_hours_81 ?_
            refine gx_X9_36_2000 E hX hD hP dX9_hours_84 ?_
            refine lv_iload hx hb dX9_hours_87 (lv_at hl 1 rfl) ?_
            refine lv_bipush hx hb dX9_hours_89 bp_100 ?_
            refine lv_isub hx hb dX9_hours_91 ?_
            obtain ⟨v25, u26, hf⟩ := bdP hf
            refine cx_X9_40_J2_get_Lw E hX hD hP hS hA (kxJ2_get_Lw l D G hD sgX9_hours_p4_rzI2032 sgX9_hours_p4_raI2037 u26) ⟨rfl, rfl⟩ ⟨Nat.le_of_ble_eq_true rfl, Nat.le_of_ble_eq_true rfl⟩ ⟨Nat.zero_le _, Nat.zero_le _⟩ hl.1 (Nat.le_of_ble_eq_true rfl) dX9_hours_92 (fun H locs hP hS => ?_)
            obtain ⟨v27, hv27, hf⟩ := bdP hf
            refine p_castP (ci := 16) (q := (RX19, TX19, 3)) hx hb hX.1 hP hown (hts _ q1314) hv27 hD.2.2.1 rfl dX9_hours_95 ?_
            refine r_astore (lv' := [(8, va_rf (drf ad 8000 v27)), (7, .int y4), (6, .int v9), (0, .ref (ad 1464)), (1, .int x1), (2, .int y3), (3, .int y4), (4, .int y5), (5, .int y6)]) hx hb dX9_hours_98 hl (by decide) rfl (fun ls hl => ?_)
            refine lv_iload hx hb dX9_hours_100 (lv_at hl 7 rfl) ?_
            refine r_aload hx hb dX9_hours_102 (lv_at hl 0 rfl) ?_
            obtain ⟨v28, hv28, hf⟩ := bdP hf
            refine gp_X9_48_W E hX hD hP sgX9_hours_p4_rpW2 hv28 dX9_hours_104 ?_
            refine lv_iadd hx hb dX9_hours_107 ?_
            obtain ⟨v29, hv29, hf⟩ := bdP hf
            refine nm_i (Option.some.inj hv29) ?_
            refine lv_istore (lv' := [(4, .int v29), (8, va_rf (drf ad 8000 v27)), (7, .int y4), (6, .int v9), (0, .ref (ad 1464)), (1, .int x1), (2, .int y3), (3, .int y4), (5, .int y6)]) hx hb dX9_hours_108 hl (by decide) rfl (fun ls hl => ?_)
            refine lv_iload_n hx hb dX9_hours_110 rfl (lv_at hl 7 rfl) ?_
            refine r_aload hx hb dX9_hours_111 (lv_at hl 1 rfl) ?_
            obtain ⟨v30, hv30, hf⟩ := bdP hf
            refine gp_X9_51_W E hX hD hP sgX9_hours_p4_rpW1 hv30 dX9_hours_113 ?_
            refine lv_iconst hx hb dX9_hours_116 ic_1 ?_
            refine lv_iload_n hx hb dX9_hours_117 rfl (lv_at hl 5 rfl) ?_
            refine r_aload hx hb dX9_hours_118 (lv_at hl 1 rfl) ?_
            obtain ⟨v31, hv31, hf⟩ := bdP hf
            refine gp_X9_51_W E hX hD hP sgX9_hours_p4_rpW1 hv31 dX9_hours_120 ?_
            refine lv_ishr hx hb dX9_hours_123 ?_
            refine lv_iconst hx hb dX9_hours_124 ic_1 ?_
            refine lv_iand hx hb dX9_hours_125 ?_
            refine lv_iadd hx hb dX9_hours_126 ?_
            obtain ⟨v32, u33, hf⟩ := bdP hf
            refine cx_X9_54_X1_with E hX hD hP hS hA (kxX1_with l D G hD sgX9_hours_p4_raI1170 u33) ⟨rfl, rfl⟩ ⟨Nat.le_of_ble_eq_true rfl, Nat.le_of_ble_eq_true rfl⟩ ⟨Nat.zero_le _, Nat.zero_le _⟩ hl.1 (Nat.le_of_ble_eq_true rfl) dX9_hours_127 (fun H locs hP hS => ?_)
            refine lv_istore_n (lv' := [(3, .int v32), (4, .int v29), (8, va_rf (drf ad 8000 v27)), (7, .int y4), (6, .int v9), (0, .ref (ad 1464)), (1, .int x1), (2, .int y3), (5, .int y6)]) hx hb dX9_hours_130 rfl hl (by decide) rfl (fun ls hl => ?_)
            refine lv_goto (tgt := 167) hx hb dX9_hours_131 (by decide) ?_
            exact J167 y3 v32 v29 hf H locs hP hS ls (lv_sub hl [5, 6, 7, 0, 1, 8, 3] rfl)
        · have hf := ifF c13 hf
          exact KE28_0 _ (hx28 _ (Option.some.inj hf).symm).symm H locs hP hS ls (lv_sub hl [] rfl)
  obtain ⟨ex28, hlp28, hf⟩ := bdP hf
  refine LP28 ((σ.1 2012), v1, 0, 0, (σ.2.2.1 1163)) ex28 hlp28 H locs hP hS ls (lv_sub hl [4, 5, 3, 2, 1, 0] rfl) ?_ ?_
  · intro a34 hex28 H locs hP hS ls hl
    subst ex28
    dsimp only [sE_l, sE_r] at hf
    refine lv_bipush hx hb dX9_hours_64 bp_m2 ?_
    cases hf
    rw [hQ]; exact g_iret hx hb hr hlk hP hS dX9_hours_66
  · intro y35 a36 hex28 H locs hP hS ls hl
    subst ex28
    dsimp only [sE_l, sE_r] at hf
    refine lv_iload hx hb dX9_hours_186 (lv_at hl 0 rfl) ?_
    cases hf
    rw [hQ]; exact g_iret hx hb hr hlk hP hS dX9_hours_188
theorem kxX9_hours_p4 (l : Launch) (D : va_G) (G : Nat → ClassId) {dsc : Nat → Option Dsc} {ad : Nat → Nat} {σ : Sto} {nr nw nu : Nat} (hD : XD dsc nr nw nu) {x1 : Int32} {r_ : Int32} {w_aI1163 : Nat → Int32} {z_L_places : Int32} (e_zI2008 : σ.1 2008 = z_L_places) {z_L_from : Int32} (e_zI2012 : σ.1 2012 = z_L_from) {z_L_to : Int32} (e_zI2013 : σ.1 2013 = z_L_to) {z_Ld_size : Int32} (e_zI2027 : σ.1 2027 = z_Ld_size) {z_Lw_size : Int32} (e_zI2032 : σ.1 2032 = z_Lw_size) {a_p4_far : Nat → Int32} (e_aI1163 : σ.2.2.1 1163 = a_p4_far) {a_UNIT : Nat → Int32} (e_aI1170 : σ.2.2.1 1170 = a_UNIT) {a_Lw_data : Nat → Int32} (e_aI2037 : σ.2.2.1 2037 = a_Lw_data) {a_L_seen : Nat → Int32} (e_aI2043 : σ.2.2.1 2043 = a_L_seen) {n_r : Nat} (e_nN0 : nr = n_r) {n_w : Nat} (e_nN1 : nw = n_w) {p_road_hours : Nat → Int32} (e_pR2 : (fun k => σ.1 (6000 + 16 * k + 2)) = p_road_hours) {p_road_wait : Nat → Int32} (e_pR5 : (fun k => σ.1 (6000 + 16 * k + 5)) = p_road_wait) {p_road_number : Nat → Int32} (e_pR6 : (fun k => σ.1 (6000 + 16 * k + 6)) = p_road_number) {p_word_road : Nat → Int32} (e_pW1 : (fun k => σ.1 (8000 + 16 * k + 1)) = p_word_road) {p_word_hours : Nat → Int32} (e_pW2 : (fun k => σ.1 (8000 + 16 * k + 2)) = p_word_hours) {g_grid : Nat → Nat → Int32} (e_gG0 : (fun k => σ.2.2.1 (4000 + 16 * k)) = g_grid) (hf : xo_X9_hours_p4 z_L_places z_L_from z_L_to z_Ld_size z_Lw_size a_p4_far a_UNIT a_Lw_data a_L_seen n_r n_w p_road_hours p_road_wait p_road_number p_word_road p_word_hours g_grid x1 = some (r_, w_aI1163)) : CtG l D G dsc ad yX9_hours (ws_ yX9_hours cX9_hours 9 (Option.some Jvm.ClassFile.FieldType.int)) rmX9_hours_p4 [.ref (ad 1464), .int x1] σ (some (.int r_)) (aI σ 1163 w_aI1163) := by
  subst e_zI2008
  subst e_zI2012
  subst e_zI2013
  subst e_zI2027
  subst e_zI2032
  subst e_aI1163
  subst e_aI1170
  subst e_aI2037
  subst e_aI2043
  subst e_nN0
  subst e_nN1
  subst e_pR2
  subst e_pR5
  subst e_pR6
  subst e_pW1
  subst e_pW2
  subst e_gG0
  exact p_ctG (by decide +kernel) (Nat.le_of_ble_eq_true rfl) (fun p e s m below meth c0 ls A E hP hX hA hS hl => wkX9_hours_p4 E hX hD hA hf rfl hP hS hl)
theorem gx_X12_19_1480 {v : Int32} (E : EN p s m args meth c0 RX12 cc nL ret) (hX : KX D G ad A s s.heap) (hD : XD dsc nr nw nu) (hP : PIC D clsA G dsc ad σ H) (hv : σ.1 1485 = v) (hdg : decode cc pc = .ok (.getfield 19, 3)) (kk : W p l e R s m args below meth c0 H locs cells slots Q (F0 m (pc + 3) ls (.int v :: rest))) : W p l e R s m args below meth c0 H locs cells slots Q (F0 m pc ls (.ref (ad 1480) :: rest)) :=
  p_get E.1.1 E.1.2.1 E.1.2.2.2.2 in_X12 E.1.2.2.2.1 hX.1 hP (hD.1 _ _ dX_1480) rfl 5 (by decide) (E.1.2.2.2.2 _ q429) (fun _ h => h) rfl (congrArg Value.int hv) hdg kk
theorem gx_X12_15_1480 (E : EN p s m args meth c0 RX12 cc nL ret) (hX : KX D G ad A s s.heap) (hD : XD dsc nr nw nu) (hP : PIC D clsA G dsc ad σ H) (hdg : decode cc pc = .ok (.getfield 15, 3)) (kk : W p l e R s m args below meth c0 H locs cells slots Q (F0 m (pc + 3) ls (.ref (ad 1164) :: rest))) : W p l e R s m args below meth c0 H locs cells slots Q (F0 m pc ls (.ref (ad 1480) :: rest)) :=
  p_get E.1.1 E.1.2.1 E.1.2.2.2.2 in_X12 E.1.2.2.2.1 hX.1 hP (hD.1 _ _ dX_1480) rfl 4 (by decide) (E.1.2.2.2.2 _ q427) (fun _ h => h) rfl rfl hdg kk
theorem cx_X12_23_X1_digit {rm : Room} {σ1 : Sto} {x0 : Int32} {x1 : Int32} {r : Int32} (E : EN p s m args meth c0 RX12 cc nL ret) (hX : KX D G ad A s s.heap) (hD : XD dsc nr nw nu) (hP : PIC D clsA G dsc ad σ H) (hS : va_S A s.heap H locs) (hA : ∀ q, PA dsc ad s.heap.size q → A q) (hM : CtG l D G dsc ad yX1_digit (ws_ yX1_digit cX1_digit 2 (Option.some Jvm.ClassFile.FieldType.int)) rm [.int x0, .int x1] σ (some (.int r)) σ1) (hz : rm.cells = 0 ∧ rm.slots = 0) (hR : rm.frames + 1 ≤ R.frames ∧ 8 + (2 + 11) + rm.locals ≤ R.locals) (hcs : cells ≤ R.cells ∧ slots ≤ R.slots) (hsz : ls.size = nL) (hW : (rest.map fun v => v.category).sum ≤ 8) (hdg : decode cc pc = .ok (.invokestatic 23, 3)) (kk : ∀ (H1 : Heap) (locs1 : List Loc), PIC D clsA G dsc ad σ1 H1 → va_S A s.heap H1 locs1 → W p l e R s m args below meth c0 H1 locs1 cells slots Q (F0 m (pc + 3) ls (.int r :: rest))) : W p l e R s m args below meth c0 H locs cells slots Q (F0 m pc ls (.int x1 :: .int x0 :: rest)) :=
  p_gSN (As := [.int x0, .int x1]) (rest := rest) E.1 hX hP hS hA hM ⟨va_cnB 2 E.1.2.2.2.2 (lw_meth q1038) rfl hz.1 hz.2 (hX.2.1.1 _ q1225 rfl) (E.1.2.2.2.2 _ q124) (by decide +kernel) hR, (E.1.2.2.2.2 _ q1037), trivial⟩ rfl hsz rfl hW hdg hcs kk
/-! X12_isOpen_p5 (II)Z -/
abbrev rmX12_isOpen_p5 : Room := { frames := 1, cells := 0, slots := 0, locals := 21 }
set_option maxHeartbeats 4000000 in
theorem wkX12_isOpen_p5 {x1 : Int32} {x2 : Int32} {r_ : Int32} (E : EN p s m args meth c0 RX12 cX12_isOpen 4 (Option.some Jvm.ClassFile.FieldType.boolean)) (hX : KX D G ad A s s.heap) (hD : XD dsc nr nw nu) (hA : ∀ q, PA dsc ad s.heap.size q → A q) (hf : xo_X12_isOpen_p5 (σ.1 1485) (σ.2.2.1 1164) (σ.2.2.1 1170) x1 x2 = some r_) (hQ : Q = MQ below (va_G1 (some (.int r_)) (fun t => PIC D clsA G dsc ad σ t.heap) A) args s 0 0 A) (hP : PIC D clsA G dsc ad σ H) (hS : va_S A s.heap H locs) (hl : lv_has ls 4 [(0, .ref (ad 1480)), (1, .int x1), (2, .int x2)]) : W p l e rmX12_isOpen_p5 s m args below meth c0 H locs 0 0 Q (F0 m 0 ls []) := by
  obtain ⟨⟨hx, hb, hml, hown, hts⟩, hr, hlk⟩ := id E
  unfold xo_X12_isOpen_p5 at hf
  refine lv_iconst hx hb dX12_isOpen_0 ic_0 ?_
  refine lv_istore_n (lv' := [(3, .int 0), (0, .ref (ad 1480)), (1, .int x1), (2, .int x2)]) hx hb dX12_isOpen_1 rfl hl (by decide) rfl (fun ls hl => ?_)
  have LP2 : ∀ (st2 : Int32) (ex2 : (Int32)), loop (xo_X12_isOpen_p5_L2 (σ.1 1485) (σ.2.2.1 1164) (σ.2.2.1 1170) x2) st2 = some ex2 → ∀ (H : Heap) (locs : List Loc), PIC D clsA G dsc ad σ H → va_S A s.heap H locs → ∀ (ls : Array Slot), lv_has ls 4 [(0, .ref (ad 1480)), (1, .int x1), (2, .int x2), (3, .int st2)] → (∀ (y8 : Int32), ex2 = y8 → ∀ (H : Heap) (locs : List Loc), PIC D clsA G dsc ad σ H → va_S A s.heap H locs → ∀ (ls : Array Slot), lv_has ls 4 [(0, .ref (ad 1480)), (1, .int x1), (3, .int y8)] → W p l e rmX12_isOpen_p5 s m args below meth c0 H locs 0 0 Q (F0 m 29 ls [])) → W p l e rmX12_isOpen_p5 s m args below meth c0 H locs 0 0 Q (F0 m 2 ls []) := by
    refine loop_P (fun st2 ex2 o2 hf ih2 hx2 => ?_)
    obtain ⟨y1, rfl⟩ : ∃ z, z = st2 := ⟨_, rfl⟩
    intro H locs (hP : PIC D clsA G dsc ad σ H) hS ls (hl : lv_has ls 4 [(0, .ref (ad 1480)), (1, .int x1), (2, .int x2), (3, .int y1)]) KE2_0
    dsimp only [xo_X12_isOpen_p5_L2] at hf
    refine lv_iload_n hx hb dX12_isOpen_2 rfl (lv_at hl 3 rfl) ?_
    refine lv_aload_n hx hb dX12_isOpen_3 rfl (lv_at hl 0 rfl) ?_
    refine gx_X12_19_1480 (v := (σ.1 1485)) E hX hD hP rfl dX12_isOpen_4 ?_
    refine lv_icmp_ge (tgt := 29) hx hb dX12_isOpen_7 (by decide) (fun c2 => ?_) (fun c2 => ?_)
    · have hf := ifT c2 hf
      exact KE2_0 _ (hx2 _ (Option.some.inj hf).symm).symm H locs hP hS ls (lv_sub hl [0, 1, 3] rfl)
    · have hf := ifF c2 hf
      refine lv_iload_n hx hb dX12_isOpen_10 rfl (lv_at hl 2 rfl) ?_
      refine lv_aload_n hx hb dX12_isOpen_11 rfl (lv_at hl 0 rfl) ?_
      refine gx_X12_15_1480 E hX hD hP dX12_isOpen_12 ?_
      refine lv_iload_n hx hb dX12_isOpen_15 rfl (lv_at hl 3 rfl) ?_
      obtain ⟨v3, hv3, hf⟩ := bdP hf
      refine p_iald hx hb hX.1 hP (hD.1 _ _ dX_1164) rfl hv3 dX12_isOpen_16 ?_
      obtain ⟨v4, u5, hf⟩ := bdP hf
      refine cx_X12_23_X1_digit E hX hD hP hS hA (kxX1_digit l D G hD rfl u5) ⟨rfl, rfl⟩ ⟨Nat.le_of_ble_eq_true rfl, Nat.le_of_ble_eq_true rfl⟩ ⟨Nat.zero_le _, Nat.zero_le _⟩ hl.1 (Nat.le_of_ble_eq_true rfl) dX12_isOpen_17 (fun H locs hP hS => ?_)
      refine lv_if_eq (tgt := 29) hx hb dX12_isOpen_20 (by decide) (fun c6 => ?_) (fun c6 => ?_)
      · have hf := ifT c6 hf
        exact KE2_0 _ (hx2 _ (Option.some.inj hf).symm).symm H locs hP hS ls (lv_sub hl [0, 1, 3] rfl)
      · have hf := ifF c6 hf
        obtain ⟨v7, hv7, hf⟩ := bdP hf
        refine lv_iinc (v := v7) (lv' := [(3, .int v7), (0, .ref (ad 1480)), (1, .int x1), (2, .int x2)]) hx hb dX12_isOpen_23 hl (k := 3) rfl (Option.some.inj hv7) (by decide) rfl (fun ls hl => ?_)
        refine lv_goto (tgt := 2) hx hb dX12_isOpen_26 (by decide) ?_
        exact ih2 _ (Option.some.inj hf).symm H locs hP hS ls (lv_sub hl [1, 2, 3, 0] rfl) KE2_0
  obtain ⟨ex2, hlp2, hf⟩ := bdP hf
  refine LP2 0 ex2 hlp2 H locs hP hS ls (lv_sub hl [1, 2, 3, 0] rfl) ?_
  intro y8 hex2 H locs hP hS ls hl
  subst ex2
  refine lv_iload_n hx hb dX12_isOpen_29 rfl (lv_at hl 2 rfl) ?_
  refine lv_aload_n hx hb dX12_isOpen_30 rfl (lv_at hl 0 rfl) ?_
  refine gx_X12_19_1480 (v := (σ.1 1485)) E hX hD hP rfl dX12_isOpen_31 ?_
  have J51 : xo_X12_isOpen_p5_J51 = some r_ → ∀ (H : Heap) (locs : List Loc), PIC D clsA G dsc ad σ H → va_S A s.heap H locs → ∀ (ls : Array Slot), lv_has ls 4 [] → W p l e rmX12_isOpen_p5 s m args below meth c0 H locs 0 0 Q (F0 m 51 ls []) := by
    intro  hf H locs hP hS ls hl
    unfold xo_X12_isOpen_p5_J51 at hf
    refine lv_iconst hx hb dX12_isOpen_51 ic_0 ?_
    cases hf
    rw [hQ]; exact g_nret hx hb hr hlk hP hS rfl dX12_isOpen_52
  refine lv_icmp_ge (tgt := 51) hx hb dX12_isOpen_34 (by decide) (fun c9 => ?_) (fun c9 => ?_)
  · have hf := ifT c9 hf
    exact J51  hf H locs hP hS ls (lv_sub hl [] rfl)
  · have hf := ifF c9 hf
    refine lv_aload_n hx hb dX12_isOpen_37 rfl (lv_at hl 0 rfl) ?_
    refine gx_X12_15_1480 E hX hD hP dX12_isOpen_38 ?_
    refine lv_iload_n hx hb dX12_isOpen_41 rfl (lv_at hl 2 rfl) ?_
    obtain ⟨v10, hv10, hf⟩ := bdP hf
    refine p_iald hx hb hX.1 hP (hD.1 _ _ dX_1164) rfl hv10 dX12_isOpen_42 ?_
    refine lv_iload_n hx hb dX12_isOpen_43 rfl (lv_at hl 1 rfl) ?_
    refine lv_icmp_ne (tgt := 51) hx hb dX12_isOpen_44 (by decide) (fun c11 => ?_) (fun c11 => ?_)
    · have hf := ifF c11 hf
      exact J51  hf H locs hP hS ls (lv_sub hl [] rfl)
    · have hf := ifT c11 hf
      refine lv_iconst hx hb dX12_isOpen_47 ic_1 ?_
      refine lv_goto (tgt := 52) hx hb dX12_isOpen_48 (by decide) ?_
      cases hf
      rw [hQ]; exact g_nret hx hb hr hlk hP hS rfl dX12_isOpen_52
theorem kxX12_isOpen_p5 (l : Launch) (D : va_G) (G : Nat → ClassId) {dsc : Nat → Option Dsc} {ad : Nat → Nat} {σ : Sto} {nr nw nu : Nat} (hD : XD dsc nr nw nu) {x1 : Int32} {x2 : Int32} {r_ : Int32} {z_p5_many : Int32} (e_zI1485 : σ.1 1485 = z_p5_many) {a_p5_row : Nat → Int32} (e_aI1164 : σ.2.2.1 1164 = a_p5_row) {a_UNIT : Nat → Int32} (e_aI1170 : σ.2.2.1 1170 = a_UNIT) (hf : xo_X12_isOpen_p5 z_p5_many a_p5_row a_UNIT x1 x2 = some r_) : CtG l D G dsc ad yX12_isOpen (ws_ yX12_isOpen cX12_isOpen 4 (Option.some Jvm.ClassFile.FieldType.boolean)) rmX12_isOpen_p5 [.ref (ad 1480), .int x1, .int x2] σ (some (.int r_)) σ := by
  subst e_zI1485
  subst e_aI1164
  subst e_aI1170
  exact p_ctG (by decide +kernel) (Nat.le_of_ble_eq_true rfl) (fun p e s m below meth c0 ls A E hP hX hA hS hl => wkX12_isOpen_p5 E hX hD hA hf rfl hP hS hl)
theorem gx_X10_3_1480 (E : EN p s m args meth c0 RX10 cc nL ret) (hX : KX D G ad A s s.heap) (hD : XD dsc nr nw nu) (hP : PIC D clsA G dsc ad σ H) (hdg : decode cc pc = .ok (.getfield 3, 3)) (kk : W p l e R s m args below meth c0 H locs cells slots Q (F0 m (pc + 3) ls (.ref (ad 1000) :: rest))) : W p l e R s m args below meth c0 H locs cells slots Q (F0 m pc ls (.ref (ad 1480) :: rest)) :=
  p_get E.1.1 E.1.2.1 E.1.2.2.2.2 in_X12 E.1.2.2.2.1 hX.1 hP (hD.1 _ _ dX_1480) rfl 1 (by decide) (E.1.2.2.2.2 _ q434) (fun _ h => h) rfl rfl hdg kk
theorem cx_X10_43_X12_isOpen_p5 {rm : Room} {σ1 : Sto} {x1 : Int32} {x2 : Int32} {r : Int32} (E : EN p s m args meth c0 RX10 cc nL ret) (hX : KX D G ad A s s.heap) (hD : XD dsc nr nw nu) (hP : PIC D clsA G dsc ad σ H) (hS : va_S A s.heap H locs) (hA : ∀ q, PA dsc ad s.heap.size q → A q) (hM : CtG l D G dsc ad yX12_isOpen (ws_ yX12_isOpen cX12_isOpen 4 (Option.some Jvm.ClassFile.FieldType.boolean)) rm [.ref (ad 1480), .int x1, .int x2] σ (some (.int r)) σ1) (hz : rm.cells = 0 ∧ rm.slots = 0) (hR : rm.frames + 1 ≤ R.frames ∧ 8 + (4 + 11) + rm.locals ≤ R.locals) (hcs : cells ≤ R.cells ∧ slots ≤ R.slots) (hsz : ls.size = nL) (hW : (rest.map fun v => v.category).sum ≤ 8) (hdg : decode cc pc = .ok (.invokevirtual 43, 3)) (kk : ∀ (H1 : Heap) (locs1 : List Loc), PIC D clsA G dsc ad σ1 H1 → va_S A s.heap H1 locs1 → W p l e R s m args below meth c0 H1 locs1 cells slots Q (F0 m (pc + 3) ls (.int r :: rest))) : W p l e R s m args below meth c0 H locs cells slots Q (F0 m pc ls (.int x2 :: .int x1 :: .ref (ad 1480) :: rest)) :=
  p_gU (As := [.int x1, .int x2]) (rest := rest) E.1 hX hP hS hA hM (cw_any (owner := "ShutPasses$AsIf") (x := ⟨"ShutPasses$AsIf", "isOpen", "(II)Z"⟩) (y := yX12_isOpen) (C := "ShutPasses$Tries") (index := 43) (own := RX10) 2 E.1.2.2.2.2 (lw_meth q1224) rfl hz.1 hz.2 (E.1.2.2.2.2 _ q1213) (E.1.2.2.2.2 _ q1215) (va_Decl.abs (hX.2.1.1 _ q1214 rfl)) (E.1.2.2.2.2 _ q1222) (E.1.2.2.2.2 _ q1223) (E.1.2.2.2.2 _ q138) (by decide +kernel) hR) (hD.1 _ _ dX_1480) rfl rfl rfl hsz rfl hW hdg hcs kk
/-! X10_cost_p5 (III)I -/
abbrev rmX10_cost_p5 : Room := { frames := 2, cells := 0, slots := 0, locals := 46 }
set_option maxHeartbeats 4000000 in
theorem wkX10_cost_p5 {x1 : Int32} {x2 : Int32} {x3 : Int32} {r_ : Int32} (E : EN p s m args meth c0 RX10 cX10_cost 5 (Option.some Jvm.ClassFile.FieldType.int)) (hX : KX D G ad A s s.heap) (hD : XD dsc nr nw nu) (hA : ∀ q, PA dsc ad s.heap.size q → A q) (hf : xo_X10_cost_p5 (σ.1 1485) (σ.2.2.1 1164) (σ.2.2.1 1170) nr (fun k => σ.1 (6000 + 16 * k + 2)) (fun k => σ.1 (6000 + 16 * k + 5)) (fun k => σ.1 (6000 + 16 * k + 6)) (fun k => σ.2.2.1 (4000 + 16 * k)) x1 x2 x3 = some r_) (hQ : Q = MQ below (va_G1 (some (.int r_)) (fun t => PIC D clsA G dsc ad σ t.heap) A) args s 0 0 A) (hP : PIC D clsA G dsc ad σ H) (hS : va_S A s.heap H locs) (hl : lv_has ls 5 [(0, .ref (ad 1480)), (1, .int x1), (2, .int x2), (3, .int x3)]) : W p l e rmX10_cost_p5 s m args below meth c0 H locs 0 0 Q (F0 m 0 ls []) := by
  obtain ⟨⟨hx, hb, hml, hown, hts⟩, hr, hlk⟩ := id E
  unfold xo_X10_cost_p5 at hf
  refine lv_aload_n hx hb dX10_cost_0 rfl (lv_at hl 0 rfl) ?_
  refine gx_X10_3_1480 E hX hD hP dX10_cost_1 ?_
  refine gx_X10_19_1000 E hX hD hP dX10_cost_4 ?_
  refine lv_iload_n hx hb dX10_cost_7 rfl (lv_at hl 1 rfl) ?_
  refine lv_iload_n hx hb dX10_cost_8 rfl (lv_at hl 2 rfl) ?_
  obtain ⟨v1, u2, hf⟩ := bdP hf
  refine cx_X10_23_X3_between E hX hD hP hS hA (kxX3_between l D G hD rfl u2) ⟨rfl, rfl⟩ ⟨Nat.le_of_ble_eq_true rfl, Nat.le_of_ble_eq_true rfl⟩ ⟨Nat.zero_le _, Nat.zero_le _⟩ hl.1 (Nat.le_of_ble_eq_true rfl) dX10_cost_9 (fun H locs hP hS => ?_)
  refine r_astore (lv' := [(4, va_rf (drf ad 6000 v1)), (0, .ref (ad 1480)), (1, .int x1), (2, .int x2), (3, .int x3)]) hx hb dX10_cost_12 hl (by decide) rfl (fun ls hl => ?_)
  refine r_aload hx hb dX10_cost_14 (lv_at hl 0 rfl) ?_
  have J40 : xo_X10_cost_p5_J40 (σ.2.2.1 1170) nr (fun k => σ.1 (6000 + 16 * k + 2)) (fun k => σ.1 (6000 + 16 * k + 5)) (fun k => σ.1 (6000 + 16 * k + 6)) (fun k => σ.2.2.1 (4000 + 16 * k)) x1 x2 x3 = some r_ → ∀ (H : Heap) (locs : List Loc), PIC D clsA G dsc ad σ H → va_S A s.heap H locs → ∀ (ls : Array Slot), lv_has ls 5 [(0, .ref (ad 1480)), (1, .int x1), (2, .int x2), (3, .int x3)] → W p l e rmX10_cost_p5 s m args below meth c0 H locs 0 0 Q (F0 m 40 ls []) := by
    intro  hf H locs hP hS ls hl
    unfold xo_X10_cost_p5_J40 at hf
    refine lv_aload_n hx hb dX10_cost_40 rfl (lv_at hl 0 rfl) ?_
    refine gx_X10_3_1480 E hX hD hP dX10_cost_41 ?_
    refine gx_X10_19_1000 E hX hD hP dX10_cost_44 ?_
    refine lv_iload_n hx hb dX10_cost_47 rfl (lv_at hl 1 rfl) ?_
    refine lv_iload_n hx hb dX10_cost_48 rfl (lv_at hl 2 rfl) ?_
    refine lv_iload_n hx hb dX10_cost_49 rfl (lv_at hl 3 rfl) ?_
    obtain ⟨v3, u4, hf⟩ := bdP hf
    refine cx_X10_39_X3_cost E hX hD hP hS hA (kxX3_cost l D G hD rfl rfl rfl rfl rfl rfl u4) ⟨rfl, rfl⟩ ⟨Nat.le_of_ble_eq_true rfl, Nat.le_of_ble_eq_true rfl⟩ ⟨Nat.zero_le _, Nat.zero_le _⟩ hl.1 (Nat.le_of_ble_eq_true rfl) dX10_cost_50 (fun H locs hP hS => ?_)
    cases hf
    rw [hQ]; exact g_iret hx hb hr hlk hP hS dX10_cost_53
  refine r_ifnull (tgt := 40) hx hb dX10_cost_16 (by decide) (fun c5 => ?_) (fun c5 => ?_)
  · have hf := ifT c5 hf
    exact J40  hf H locs hP hS ls (lv_sub hl [1, 2, 3, 4] rfl)
  · have hf := ifF c5 hf
    refine r_aload hx hb dX10_cost_19 (lv_at hl 0 rfl) ?_
    obtain ⟨v6, hv6, hf⟩ := bdP hf
    refine gp_X10_29_R E hX hD hP rfl hv6 dX10_cost_21 ?_
    refine lv_iconst hx hb dX10_cost_24 ic_m1 ?_
    refine lv_icmp_eq (tgt := 40) hx hb dX10_cost_25 (by decide) (fun c7 => ?_) (fun c7 => ?_)
    · have hf := ifT c7 hf
      exact J40  hf H locs hP hS ls (lv_sub hl [1, 2, 3, 4] rfl)
    · have hf := ifF c7 hf
      refine lv_iload_n hx hb dX10_cost_28 rfl (lv_at hl 4 rfl) ?_
      refine r_aload hx hb dX10_cost_29 (lv_at hl 0 rfl) ?_
      obtain ⟨v8, hv8, hf⟩ := bdP hf
      refine gp_X10_29_R E hX hD hP rfl hv8 dX10_cost_31 ?_
      obtain ⟨v9, u10, hf⟩ := bdP hf
      refine cx_X10_35_X1_digit E hX hD hP hS hA (kxX1_digit l D G hD rfl u10) ⟨rfl, rfl⟩ ⟨Nat.le_of_ble_eq_true rfl, Nat.le_of_ble_eq_true rfl⟩ ⟨Nat.zero_le _, Nat.zero_le _⟩ hl.1 (Nat.le_of_ble_eq_true rfl) dX10_cost_34 (fun H locs hP hS => ?_)
      refine lv_if_eq (tgt := 54) hx hb dX10_cost_37 (by decide) (fun c11 => ?_) (fun c11 => ?_)
      · have hf := ifT c11 hf
        refine lv_aload_n hx hb dX10_cost_54 rfl (lv_at hl 1 rfl) ?_
        refine r_aload hx hb dX10_cost_55 (lv_at hl 0 rfl) ?_
        obtain ⟨v12, hv12, hf⟩ := bdP hf
        refine gp_X10_29_R E hX hD hP rfl hv12 dX10_cost_57 ?_
        refine lv_iload_n hx hb dX10_cost_60 rfl (lv_at hl 4 rfl) ?_
        obtain ⟨v13, u14, hf⟩ := bdP hf
        refine cx_X10_43_X12_isOpen_p5 E hX hD hP hS hA (kxX12_isOpen_p5 l D G hD rfl rfl rfl u14) ⟨rfl, rfl⟩ ⟨Nat.le_of_ble_eq_true rfl, Nat.le_of_ble_eq_true rfl⟩ ⟨Nat.zero_le _, Nat.zero_le _⟩ hl.1 (Nat.le_of_ble_eq_true rfl) dX10_cost_61 (fun H locs hP hS => ?_)
        refine lv_if_eq (tgt := 75) hx hb dX10_cost_64 (by decide) (fun c15 => ?_) (fun c15 => ?_)
        · have hf := ifT c15 hf
          refine r_aload hx hb dX10_cost_75 (lv_at hl 0 rfl) ?_
          obtain ⟨v16, hv16, hf⟩ := bdP hf
          refine gp_X10_50_R E hX hD hP rfl hv16 dX10_cost_77 ?_
          refine lv_if_le (tgt := 97) hx hb dX10_cost_80 (by decide) (fun c17 => ?_) (fun c17 => ?_)
          · have hf := ifT c17 hf
            refine lv_ldc hx hb hown (hts _ q1205) dX10_cost_97 ?_
            cases hf
            rw [hQ]; exact g_iret hx hb hr hlk hP hS dX10_cost_99
          · have hf := ifF c17 hf
            refine r_aload hx hb dX10_cost_83 (lv_at hl 0 rfl) ?_
            obtain ⟨v18, hv18, hf⟩ := bdP hf
            refine gp_X10_47_R E hX hD hP rfl hv18 dX10_cost_85 ?_
            refine r_aload hx hb dX10_cost_88 (lv_at hl 0 rfl) ?_
            obtain ⟨v19, hv19, hf⟩ := bdP hf
            refine gp_X10_50_R E hX hD hP rfl hv19 dX10_cost_90 ?_
            refine lv_iadd hx hb dX10_cost_93 ?_
            refine lv_goto (tgt := 99) hx hb dX10_cost_94 (by decide) ?_
            cases hf
            rw [hQ]; exact g_iret hx hb hr hlk hP hS dX10_cost_99
        · have hf := ifF c15 hf
          refine r_aload hx hb dX10_cost_67 (lv_at hl 0 rfl) ?_
          obtain ⟨v20, hv20, hf⟩ := bdP hf
          refine gp_X10_47_R E hX hD hP rfl hv20 dX10_cost_69 ?_
          refine lv_goto (tgt := 99) hx hb dX10_cost_72 (by decide) ?_
          cases hf
          rw [hQ]; exact g_iret hx hb hr hlk hP hS dX10_cost_99
      · have hf := ifF c11 hf
        exact J40  hf H locs hP hS ls (lv_sub hl [1, 2, 3, 4] rfl)
theorem kxX10_cost_p5 (l : Launch) (D : va_G) (G : Nat → ClassId) {dsc : Nat → Option Dsc} {ad : Nat → Nat} {σ : Sto} {nr nw nu : Nat} (hD : XD dsc nr nw nu) {x1 : Int32} {x2 : Int32} {x3 : Int32} {r_ : Int32} {z_p5_many : Int32} (e_zI1485 : σ.1 1485 = z_p5_many) {a_p5_row : Nat → Int32} (e_aI1164 : σ.2.2.1 1164 = a_p5_row) {a_UNIT : Nat → Int32} (e_aI1170 : σ.2.2.1 1170 = a_UNIT) {n_r : Nat} (e_nN0 : nr = n_r) {p_road_hours : Nat → Int32} (e_pR2 : (fun k => σ.1 (6000 + 16 * k + 2)) = p_road_hours) {p_road_wait : Nat → Int32} (e_pR5 : (fun k => σ.1 (6000 + 16 * k + 5)) = p_road_wait) {p_road_number : Nat → Int32} (e_pR6 : (fun k => σ.1 (6000 + 16 * k + 6)) = p_road_number) {g_grid : Nat → Nat → Int32} (e_gG0 : (fun k => σ.2.2.1 (4000 + 16 * k)) = g_grid) (hf : xo_X10_cost_p5 z_p5_many a_p5_row a_UNIT n_r p_road_hours p_road_wait p_road_number g_grid x1 x2 x3 = some r_) : CtG l D G dsc ad yX10_cost (ws_ yX10_cost cX10_cost 5 (Option.some Jvm.ClassFile.FieldType.int)) rmX10_cost_p5 [.ref (ad 1480), .int x1, .int x2, .int x3] σ (some (.int r_)) σ := by
  subst e_zI1485
  subst e_aI1164
  subst e_aI1170
  subst e_nN0
  subst e_pR2
  subst e_pR5
  subst e_pR6
  subst e_gG0
  exact p_ctG (by decide +kernel) (Nat.le_of_ble_eq_true rfl) (fun p e s m below meth c0 ls A E hP hX hA hS hl => wkX10_cost_p5 E hX hD hA hf rfl hP hS hl)
theorem gx_X10_15_1480 (E : EN p s m args meth c0 RX10 cc nL ret) (hX : KX D G ad A s s.heap) (hD : XD dsc nr nw nu) (hP : PIC D clsA G dsc ad σ H) (hdg : decode cc pc = .ok (.getfield 15, 3)) (kk : W p l e R s m args below meth c0 H locs cells slots Q (F0 m (pc + 3) ls (.ref (ad 1160) :: rest))) : W p l e R s m args below meth c0 H locs cells slots Q (F0 m pc ls (.ref (ad 1480) :: rest)) :=
  p_get E.1.1 E.1.2.1 E.1.2.2.2.2 in_X12 E.1.2.2.2.1 hX.1 hP (hD.1 _ _ dX_1480) rfl 0 (by decide) (E.1.2.2.2.2 _ q433) (fun _ h => h) rfl rfl hdg kk
theorem cx_X10_60_X10_cost_p5 {rm : Room} {σ1 : Sto} {x1 : Int32} {x2 : Int32} {x3 : Int32} {r : Int32} (E : EN p s m args meth c0 RX10 cc nL ret) (hX : KX D G ad A s s.heap) (hD : XD dsc nr nw nu) (hP : PIC D clsA G dsc ad σ H) (hS : va_S A s.heap H locs) (hA : ∀ q, PA dsc ad s.heap.size q → A q) (hM : CtG l D G dsc ad yX10_cost (ws_ yX10_cost cX10_cost 5 (Option.some Jvm.ClassFile.FieldType.int)) rm [.ref (ad 1480), .int x1, .int x2, .int x3] σ (some (.int r)) σ1) (hz : rm.cells = 0 ∧ rm.slots = 0) (hR : rm.frames + 1 ≤ R.frames ∧ 8 + (5 + 11) + rm.locals ≤ R.locals) (hcs : cells ≤ R.cells ∧ slots ≤ R.slots) (hsz : ls.size = nL) (hW : (rest.map fun v => v.category).sum ≤ 8) (hdg : decode cc pc = .ok (.invokevirtual 60, 3)) (kk : ∀ (H1 : Heap) (locs1 : List Loc), PIC D clsA G dsc ad σ1 H1 → va_S A s.heap H1 locs1 → W p l e R s m args below meth c0 H1 locs1 cells slots Q (F0 m (pc + 3) ls (.int r :: rest))) : W p l e R s m args below meth c0 H locs cells slots Q (F0 m pc ls (.int x3 :: .int x2 :: .int x1 :: .ref (ad 1480) :: rest)) :=
  p_gU (As := [.int x1, .int x2, .int x3]) (rest := rest) E.1 hX hP hS hA hM (cw_any (owner := "ShutPasses$AsIf") (x := ⟨"ShutPasses$AsIf", "cost", "(III)I"⟩) (y := yX10_cost) (C := "ShutPasses$Tries") (index := 60) (own := RX10) 3 E.1.2.2.2.2 (lw_meth q1209) rfl hz.1 hz.2 (E.1.2.2.2.2 _ q1206) (E.1.2.2.2.2 _ q2283) (va_Decl.of (E.1.2.2.2.2 _ q1208) (E.1.2.2.2.2 _ q1209)) (va_Nw.use rfl (hX.2.1.2 ("ShutPasses$Tries", yX10_cost) (by decide +kernel))) (E.1.2.2.2.2 _ q1208) (E.1.2.2.2.2 _ q136) (by decide +kernel) hR) (hD.1 _ _ dX_1480) rfl rfl rfl hsz rfl hW hdg hcs kk
/-! X10_next_p5 (II)I -/
def sgX10_next_p5 (σ : Sto) (w0 : Nat → Int32) : Sto := aI σ 1160 w0
theorem sgX10_next_p5_self (σ : Sto) : sgX10_next_p5 σ (σ.2.2.1 1160) = σ := by
  unfold sgX10_next_p5
  simp only [zI_self, zL_self, aI_self, aL_self]
theorem sgX10_next_p5_aI1160 {σ : Sto} {w0 : Nat → Int32} {g : Nat → Int32} : aI (sgX10_next_p5 σ w0) 1160 g = sgX10_next_p5 σ g := aI_aI _ 1160 _ _
theorem sgX10_next_p5_rzI1485 {σ : Sto} {w0 : Nat → Int32} : (sgX10_next_p5 σ w0).1 1485 = σ.1 1485 := rfl
theorem sgX10_next_p5_rzI2008 {σ : Sto} {w0 : Nat → Int32} : (sgX10_next_p5 σ w0).1 2008 = σ.1 2008 := rfl
theorem sgX10_next_p5_rzI2013 {σ : Sto} {w0 : Nat → Int32} : (sgX10_next_p5 σ w0).1 2013 = σ.1 2013 := rfl
theorem sgX10_next_p5_raI1160 {σ : Sto} {w0 : Nat → Int32} : (sgX10_next_p5 σ w0).2.2.1 1160 = w0 := rfl
theorem sgX10_next_p5_raI1164 {σ : Sto} {w0 : Nat → Int32} : (sgX10_next_p5 σ w0).2.2.1 1164 = σ.2.2.1 1164 := rfl
theorem sgX10_next_p5_raI1170 {σ : Sto} {w0 : Nat → Int32} : (sgX10_next_p5 σ w0).2.2.1 1170 = σ.2.2.1 1170 := rfl
theorem sgX10_next_p5_rpR2 {σ : Sto} {w0 : Nat → Int32} : (fun k => (sgX10_next_p5 σ w0).1 (6000 + 16 * k + 2)) = (fun k => σ.1 (6000 + 16 * k + 2)) := by
  funext k
  unfold sgX10_next_p5
  dsimp only [zI, zL, aI, aL]
  repeat rw [if_neg (by omega)]
theorem sgX10_next_p5_rpR5 {σ : Sto} {w0 : Nat → Int32} : (fun k => (sgX10_next_p5 σ w0).1 (6000 + 16 * k + 5)) = (fun k => σ.1 (6000 + 16 * k + 5)) := by
  funext k
  unfold sgX10_next_p5
  dsimp only [zI, zL, aI, aL]
  repeat rw [if_neg (by omega)]
theorem sgX10_next_p5_rpR6 {σ : Sto} {w0 : Nat → Int32} : (fun k => (sgX10_next_p5 σ w0).1 (6000 + 16 * k + 6)) = (fun k => σ.1 (6000 + 16 * k + 6)) := by
  funext k
  unfold sgX10_next_p5
  dsimp only [zI, zL, aI, aL]
  repeat rw [if_neg (by omega)]
theorem sgX10_next_p5_rgG0 {σ : Sto} {w0 : Nat → Int32} : (fun k => (sgX10_next_p5 σ w0).2.2.1 (4000 + 16 * k)) = (fun k => σ.2.2.1 (4000 + 16 * k)) := by
  funext k
  unfold sgX10_next_p5
  dsimp only [zI, zL, aI, aL]
  repeat rw [if_neg (by omega)]
abbrev rmX10_next_p5 : Room := { frames := 3, cells := 0, slots := 0, locals := 70 }
set_option maxHeartbeats 4000000 in
theorem wkX10_next_p5 {x1 : Int32} {x2 : Int32} {r_ : Int32} {w_aI1160 : Nat → Int32} (E : EN p s m args meth c0 RX10 cX10_next 7 (Option.some Jvm.ClassFile.FieldType.int)) (hX : KX D G ad A s s.heap) (hD : XD dsc nr nw nu) (hA : ∀ q, PA dsc ad s.heap.size q → A q) (hf : xo_X10_next_p5 (σ.1 1485) (σ.1 2008) (σ.1 2013) (σ.2.2.1 1160) (σ.2.2.1 1164) (σ.2.2.1 1170) nr (fun k => σ.1 (6000 + 16 * k + 2)) (fun k => σ.1 (6000 + 16 * k + 5)) (fun k => σ.1 (6000 + 16 * k + 6)) (fun k => σ.2.2.1 (4000 + 16 * k)) x1 x2 = some (r_, w_aI1160)) (hQ : Q = MQ below (va_G1 (some (.int r_)) (fun t => PIC D clsA G dsc ad (sgX10_next_p5 σ w_aI1160) t.heap) A) args s 0 0 A) (hP : PIC D clsA G dsc ad σ H) (hS : va_S A s.heap H locs) (hl : lv_has ls 7 [(0, .ref (ad 1480)), (1, .int x1), (2, .int x2)]) : W p l e rmX10_next_p5 s m args below meth c0 H locs 0 0 Q (F0 m 0 ls []) := by
  obtain ⟨⟨hx, hb, hml, hown, hts⟩, hr, hlk⟩ := id E
  have hP := hP.to (sgX10_next_p5_self σ).symm
  unfold xo_X10_next_p5 at hf
  refine lv_iload_n hx hb dX10_next_0 rfl (lv_at hl 1 rfl) ?_
  refine lv_aload_n hx hb dX10_next_1 rfl (lv_at hl 0 rfl) ?_
  refine gx_X10_3_1480 E hX hD hP dX10_next_2 ?_
  refine gx_X10_19_1000 E hX hD hP dX10_next_5 ?_
  refine gx_X10_54_2000 (v := (σ.1 2013)) E hX hD hP sgX10_next_p5_rzI2013 dX10_next_8 ?_
  refine lv_icmp_ne (tgt := 17) hx hb dX10_next_11 (by decide) (fun c1 => ?_) (fun c1 => ?_)
  · have hf := ifF c1 hf
    refine lv_iconst hx hb dX10_next_17 ic_0 ?_
    refine lv_istore_n (lv' := [(3, .int 0), (0, .ref (ad 1480)), (1, .int x1), (2, .int x2)]) hx hb dX10_next_18 rfl hl (by decide) rfl (fun ls hl => ?_)
    have LP19 : ∀ (st19 : Int32 × (Nat → Int32)) (ex19 : ((Nat → Int32))), loop (xo_X10_next_p5_L19 (σ.1 2008) (σ.1 2013)) st19 = some ex19 → ∀ (H : Heap) (locs : List Loc), PIC D clsA G dsc ad (sgX10_next_p5 σ (st19.2)) H → va_S A s.heap H locs → ∀ (ls : Array Slot), lv_has ls 7 [(0, .ref (ad 1480)), (1, .int x1), (2, .int x2), (3, .int (st19.1))] → (∀ (a10 : Nat → Int32), ex19 = a10 → ∀ (H : Heap) (locs : List Loc), PIC D clsA G dsc ad (sgX10_next_p5 σ a10) H → va_S A s.heap H locs → ∀ (ls : Array Slot), lv_has ls 7 [(0, .ref (ad 1480)), (1, .int x1), (2, .int x2)] → W p l e rmX10_next_p5 s m args below meth c0 H locs 0 0 Q (F0 m 65 ls [])) → W p l e rmX10_next_p5 s m args below meth c0 H locs 0 0 Q (F0 m 19 ls []) := by
      refine loop_P (fun st19 ex19 o19 hf ih19 hx19 => ?_)
      obtain ⟨y2, a3⟩ := st19
      intro H locs (hP : PIC D clsA G dsc ad (sgX10_next_p5 σ a3) H) hS ls (hl : lv_has ls 7 [(0, .ref (ad 1480)), (1, .int x1), (2, .int x2), (3, .int y2)]) KE19_0
      dsimp only [xo_X10_next_p5_L19] at hf
      refine lv_iload_n hx hb dX10_next_19 rfl (lv_at hl 3 rfl) ?_
      refine lv_aload_n hx hb dX10_next_20 rfl (lv_at hl 0 rfl) ?_
      refine gx_X10_3_1480 E hX hD hP dX10_next_21 ?_
      refine gx_X10_19_1000 E hX hD hP dX10_next_24 ?_
      refine gx_X10_57_2000 (v := (σ.1 2008)) E hX hD hP sgX10_next_p5_rzI2008 dX10_next_27 ?_
      refine lv_icmp_ge (tgt := 65) hx hb dX10_next_30 (by decide) (fun c4 => ?_) (fun c4 => ?_)
      · have hf := ifT c4 hf
        exact KE19_0 _ (hx19 _ (Option.some.inj hf).symm).symm H locs hP hS ls (lv_sub hl [0, 1, 2] rfl)
      · have hf := ifF c4 hf
        refine lv_aload_n hx hb dX10_next_33 rfl (lv_at hl 0 rfl) ?_
        refine gx_X10_15_1480 E hX hD hP dX10_next_34 ?_
        refine lv_iload_n hx hb dX10_next_37 rfl (lv_at hl 3 rfl) ?_
        refine lv_iload_n hx hb dX10_next_38 rfl (lv_at hl 3 rfl) ?_
        refine lv_aload_n hx hb dX10_next_39 rfl (lv_at hl 0 rfl) ?_
        refine gx_X10_3_1480 E hX hD hP dX10_next_40 ?_
        refine gx_X10_19_1000 E hX hD hP dX10_next_43 ?_
        refine gx_X10_54_2000 (v := (σ.1 2013)) E hX hD hP sgX10_next_p5_rzI2013 dX10_next_46 ?_
        have J58 : ∀ (k5 : Int32) (k6 : Int32), xo_X10_next_p5_J58 y2 a3 k5 k6 = some o19 → ∀ (H : Heap) (locs : List Loc), PIC D clsA G dsc ad (sgX10_next_p5 σ a3) H → va_S A s.heap H locs → ∀ (ls : Array Slot), lv_has ls 7 [(0, .ref (ad 1480)), (1, .int x1), (2, .int x2), (3, .int y2)] → W p l e rmX10_next_p5 s m args below meth c0 H locs 0 0 Q (F0 m 58 ls [.int k5, .int k6, .ref (ad 1160)]) := by
          intro k5 k6 hf H locs hP hS ls hl
          unfold xo_X10_next_p5_J58 at hf
          obtain ⟨a7, ha7, hf⟩ := bdP hf
          refine p_iast hx hb hX.1 hP hS (hA _ (PA_c (hD.1 _ _ dX_1160))) (hD.1 _ _ dX_1160) sgX10_next_p5_raI1160 ha7 sgX10_next_p5_aI1160 dX10_next_58 (fun H locs hP hS => ?_)
          obtain ⟨v8, hv8, hf⟩ := bdP hf
          refine lv_iinc (v := v8) (lv' := [(3, .int v8), (0, .ref (ad 1480)), (1, .int x1), (2, .int x2)]) hx hb dX10_next_59 hl (k := 3) rfl (Option.some.inj hv8) (by decide) rfl (fun ls hl => ?_)
          refine lv_goto (tgt := 19) hx hb dX10_next_62 (by decide) ?_
          exact ih19 _ (Option.some.inj hf).symm H locs hP hS ls (lv_sub hl [1, 2, 3, 0] rfl) KE19_0
        refine lv_icmp_ne (tgt := 56) hx hb dX10_next_49 (by decide) (fun c9 => ?_) (fun c9 => ?_)
        · have hf := ifF c9 hf
          refine lv_ldc hx hb hown (hts _ q1205) dX10_next_56 ?_
          exact J58 1000000 y2 hf H locs hP hS ls (lv_sub hl [0, 1, 2, 3] rfl)
        · have hf := ifT c9 hf
          refine lv_iconst hx hb dX10_next_52 ic_0 ?_
          refine lv_goto (tgt := 58) hx hb dX10_next_53 (by decide) ?_
          exact J58 0 y2 hf H locs hP hS ls (lv_sub hl [0, 1, 2, 3] rfl)
    obtain ⟨ex19, hlp19, hf⟩ := bdP hf
    refine LP19 (0, (σ.2.2.1 1160)) ex19 hlp19 H locs hP hS ls (lv_sub hl [1, 2, 3, 0] rfl) ?_
    intro a10 hex19 H locs hP hS ls hl
    subst ex19
    refine lv_iconst hx hb dX10_next_65 ic_1 ?_
    refine lv_istore_n (lv' := [(3, .int 1), (0, .ref (ad 1480)), (1, .int x1), (2, .int x2)]) hx hb dX10_next_66 rfl hl (by decide) rfl (fun ls hl => ?_)
    have LP67 : ∀ (st67 : Int32 × (Nat → Int32)) (ex67 : ((Nat → Int32))), loop (xo_X10_next_p5_L67 (σ.1 1485) (σ.1 2008) (σ.2.2.1 1164) (σ.2.2.1 1170) nr (fun k => σ.1 (6000 + 16 * k + 2)) (fun k => σ.1 (6000 + 16 * k + 5)) (fun k => σ.1 (6000 + 16 * k + 6)) (fun k => σ.2.2.1 (4000 + 16 * k)) x2) st67 = some ex67 → ∀ (H : Heap) (locs : List Loc), PIC D clsA G dsc ad (sgX10_next_p5 σ (st67.2)) H → va_S A s.heap H locs → ∀ (ls : Array Slot), lv_has ls 7 [(0, .ref (ad 1480)), (1, .int x1), (2, .int x2), (3, .int (st67.1))] → (∀ (a41 : Nat → Int32), ex67 = a41 → ∀ (H : Heap) (locs : List Loc), PIC D clsA G dsc ad (sgX10_next_p5 σ a41) H → va_S A s.heap H locs → ∀ (ls : Array Slot), lv_has ls 7 [(0, .ref (ad 1480)), (1, .int x1), (2, .int x2)] → W p l e rmX10_next_p5 s m args below meth c0 H locs 0 0 Q (F0 m 201 ls [])) → W p l e rmX10_next_p5 s m args below meth c0 H locs 0 0 Q (F0 m 67 ls []) := by
      refine loop_P (fun st67 ex67 o67 hf ih67 hx67 => ?_)
      obtain ⟨y11, a12⟩ := st67
      intro H locs (hP : PIC D clsA G dsc ad (sgX10_next_p5 σ a12) H) hS ls (hl : lv_has ls 7 [(0, .ref (ad 1480)), (1, .int x1), (2, .int x2), (3, .int y11)]) KE67_0
      dsimp only [xo_X10_next_p5_L67] at hf
      refine lv_iload_n hx hb dX10_next_67 rfl (lv_at hl 3 rfl) ?_
      refine lv_if_eq (tgt := 201) hx hb dX10_next_68 (by decide) (fun c13 => ?_) (fun c13 => ?_)
      · have hf := ifT c13 hf
        exact KE67_0 _ (hx67 _ (Option.some.inj hf).symm).symm H locs hP hS ls (lv_sub hl [0, 1, 2] rfl)
      · have hf := ifF c13 hf
        refine lv_iconst hx hb dX10_next_71 ic_0 ?_
        refine lv_istore_n (lv' := [(3, .int 0), (0, .ref (ad 1480)), (1, .int x1), (2, .int x2)]) hx hb dX10_next_72 rfl hl (by decide) rfl (fun ls hl => ?_)
        refine lv_iconst hx hb dX10_next_73 ic_0 ?_
        refine lv_istore (lv' := [(4, .int 0), (3, .int 0), (0, .ref (ad 1480)), (1, .int x1), (2, .int x2)]) hx hb dX10_next_74 hl (by decide) rfl (fun ls hl => ?_)
        have LP76 : ∀ (st76 : Int32 × Int32 × (Nat → Int32)) (ex76 : (Int32 × (Nat → Int32))), loop (xo_X10_next_p5_L76 (σ.1 1485) (σ.1 2008) (σ.2.2.1 1164) (σ.2.2.1 1170) nr (fun k => σ.1 (6000 + 16 * k + 2)) (fun k => σ.1 (6000 + 16 * k + 5)) (fun k => σ.1 (6000 + 16 * k + 6)) (fun k => σ.2.2.1 (4000 + 16 * k)) x2) st76 = some ex76 → ∀ (H : Heap) (locs : List Loc), PIC D clsA G dsc ad (sgX10_next_p5 σ (st76.2.2)) H → va_S A s.heap H locs → ∀ (ls : Array Slot), lv_has ls 7 [(0, .ref (ad 1480)), (1, .int x1), (2, .int x2), (3, .int (st76.1)), (4, .int (st76.2.1))] → (∀ (y39 : Int32) (a40 : Nat → Int32), ex76 = (y39, a40) → ∀ (H : Heap) (locs : List Loc), PIC D clsA G dsc ad (sgX10_next_p5 σ a40) H → va_S A s.heap H locs → ∀ (ls : Array Slot), lv_has ls 7 [(0, .ref (ad 1480)), (1, .int x1), (2, .int x2), (3, .int y39)] → W p l e rmX10_next_p5 s m args below meth c0 H locs 0 0 Q (F0 m 198 ls [])) → W p l e rmX10_next_p5 s m args below meth c0 H locs 0 0 Q (F0 m 76 ls []) := by
          refine loop_P (fun st76 ex76 o76 hf ih76 hx76 => ?_)
          obtain ⟨y14, y15, a16⟩ := st76
          intro H locs (hP : PIC D clsA G dsc ad (sgX10_next_p5 σ a16) H) hS ls (hl : lv_has ls 7 [(0, .ref (ad 1480)), (1, .int x1), (2, .int x2), (3, .int y14), (4, .int y15)]) KE76_0
          dsimp only [xo_X10_next_p5_L76] at hf
          refine lv_iload hx hb dX10_next_76 (lv_at hl 4 rfl) ?_
          refine lv_aload_n hx hb dX10_next_78 rfl (lv_at hl 0 rfl) ?_
          refine gx_X10_3_1480 E hX hD hP dX10_next_79 ?_
          refine gx_X10_19_1000 E hX hD hP dX10_next_82 ?_
          refine gx_X10_57_2000 (v := (σ.1 2008)) E hX hD hP sgX10_next_p5_rzI2008 dX10_next_85 ?_
          refine lv_icmp_ge (tgt := 198) hx hb dX10_next_88 (by decide) (fun c17 => ?_) (fun c17 => ?_)
          · have hf := ifT c17 hf
            exact KE76_0 _ _ (hx76 _ (Option.some.inj hf).symm).symm H locs hP hS ls (lv_sub hl [0, 1, 2, 3] rfl)
          · have hf := ifF c17 hf
            refine lv_iconst hx hb dX10_next_91 ic_0 ?_
            refine lv_istore (lv' := [(5, .int 0), (0, .ref (ad 1480)), (1, .int x1), (2, .int x2), (3, .int y14), (4, .int y15)]) hx hb dX10_next_92 hl (by decide) rfl (fun ls hl => ?_)
            have LP94 : ∀ (st94 : Int32 × Int32 × (Nat → Int32)) (ex94 : (Int32 × (Nat → Int32))), loop (xo_X10_next_p5_L94 (σ.1 1485) (σ.1 2008) (σ.2.2.1 1164) (σ.2.2.1 1170) nr (fun k => σ.1 (6000 + 16 * k + 2)) (fun k => σ.1 (6000 + 16 * k + 5)) (fun k => σ.1 (6000 + 16 * k + 6)) (fun k => σ.2.2.1 (4000 + 16 * k)) x2 y15) st94 = some ex94 → ∀ (H : Heap) (locs : List Loc), PIC D clsA G dsc ad (sgX10_next_p5 σ (st94.2.2)) H → va_S A s.heap H locs → ∀ (ls : Array Slot), lv_has ls 7 [(0, .ref (ad 1480)), (1, .int x1), (2, .int x2), (3, .int (st94.1)), (4, .int y15), (5, .int (st94.2.1))] → (∀ (y36 : Int32) (a37 : Nat → Int32), ex94 = (y36, a37) → ∀ (H : Heap) (locs : List Loc), PIC D clsA G dsc ad (sgX10_next_p5 σ a37) H → va_S A s.heap H locs → ∀ (ls : Array Slot), lv_has ls 7 [(0, .ref (ad 1480)), (1, .int x1), (2, .int x2), (3, .int y36), (4, .int y15)] → W p l e rmX10_next_p5 s m args below meth c0 H locs 0 0 Q (F0 m 192 ls [])) → W p l e rmX10_next_p5 s m args below meth c0 H locs 0 0 Q (F0 m 94 ls []) := by
              refine loop_P (fun st94 ex94 o94 hf ih94 hx94 => ?_)
              obtain ⟨y18, y19, a20⟩ := st94
              intro H locs (hP : PIC D clsA G dsc ad (sgX10_next_p5 σ a20) H) hS ls (hl : lv_has ls 7 [(0, .ref (ad 1480)), (1, .int x1), (2, .int x2), (3, .int y18), (4, .int y15), (5, .int y19)]) KE94_0
              dsimp only [xo_X10_next_p5_L94] at hf
              refine lv_iload hx hb dX10_next_94 (lv_at hl 5 rfl) ?_
              refine lv_aload_n hx hb dX10_next_96 rfl (lv_at hl 0 rfl) ?_
              refine gx_X10_3_1480 E hX hD hP dX10_next_97 ?_
              refine gx_X10_19_1000 E hX hD hP dX10_next_100 ?_
              refine gx_X10_57_2000 (v := (σ.1 2008)) E hX hD hP sgX10_next_p5_rzI2008 dX10_next_103 ?_
              refine lv_icmp_ge (tgt := 192) hx hb dX10_next_106 (by decide) (fun c21 => ?_) (fun c21 => ?_)
              · have hf := ifT c21 hf
                exact KE94_0 _ _ (hx94 _ (Option.some.inj hf).symm).symm H locs hP hS ls (lv_sub hl [0, 1, 2, 3, 4] rfl)
              · have hf := ifF c21 hf
                refine lv_aload_n hx hb dX10_next_109 rfl (lv_at hl 0 rfl) ?_
                refine gx_X10_15_1480 E hX hD hP dX10_next_110 ?_
                refine lv_iload hx hb dX10_next_113 (lv_at hl 5 rfl) ?_
                obtain ⟨v22, hv22, hf⟩ := bdP hf
                refine p_iald hx hb hX.1 hP (hD.1 _ _ dX_1160) sgX10_next_p5_raI1160 hv22 dX10_next_115 ?_
                refine lv_ldc hx hb hown (hts _ q1205) dX10_next_116 ?_
                have J135 : ∀ (k23 : Int32), xo_X10_next_p5_J135 y15 y18 y19 a20 k23 = some o94 → ∀ (H : Heap) (locs : List Loc), PIC D clsA G dsc ad (sgX10_next_p5 σ a20) H → va_S A s.heap H locs → ∀ (ls : Array Slot), lv_has ls 7 [(0, .ref (ad 1480)), (1, .int x1), (2, .int x2), (3, .int y18), (4, .int y15), (5, .int y19)] → W p l e rmX10_next_p5 s m args below meth c0 H locs 0 0 Q (F0 m 135 ls [.int k23]) := by
                  intro k23 hf H locs hP hS ls hl
                  unfold xo_X10_next_p5_J135 at hf
                  refine lv_istore (lv' := [(6, .int k23), (0, .ref (ad 1480)), (1, .int x1), (2, .int x2), (3, .int y18), (4, .int y15), (5, .int y19)]) hx hb dX10_next_135 hl (by decide) rfl (fun ls hl => ?_)
                  refine lv_iload hx hb dX10_next_137 (lv_at hl 0 rfl) ?_
                  refine lv_ldc hx hb hown (hts _ q1205) dX10_next_139 ?_
                  have J186 : ∀ (y24 : Int32) (a25 : Nat → Int32), xo_X10_next_p5_J186 y19 y24 a25 = some o94 → ∀ (H : Heap) (locs : List Loc), PIC D clsA G dsc ad (sgX10_next_p5 σ a25) H → va_S A s.heap H locs → ∀ (ls : Array Slot), lv_has ls 7 [(0, .ref (ad 1480)), (1, .int x1), (2, .int x2), (3, .int y24), (4, .int y15), (5, .int y19)] → W p l e rmX10_next_p5 s m args below meth c0 H locs 0 0 Q (F0 m 186 ls []) := by
                    intro y24 a25 hf H locs hP hS ls hl
                    unfold xo_X10_next_p5_J186 at hf
                    obtain ⟨v26, hv26, hf⟩ := bdP hf
                    refine lv_iinc (v := v26) (lv' := [(5, .int v26), (0, .ref (ad 1480)), (1, .int x1), (2, .int x2), (3, .int y24), (4, .int y15)]) hx hb dX10_next_186 hl (k := 5) rfl (Option.some.inj hv26) (by decide) rfl (fun ls hl => ?_)
                    refine lv_goto (tgt := 94) hx hb dX10_next_189 (by decide) ?_
                    exact ih94 _ (Option.some.inj hf).symm H locs hP hS ls (lv_sub hl [1, 2, 3, 4, 5, 0] rfl) KE94_0
                  refine lv_icmp_eq (tgt := 186) hx hb dX10_next_141 (by decide) (fun c27 => ?_) (fun c27 => ?_)
                  · have hf := ifT c27 hf
                    exact J186 y18 a20 hf H locs hP hS ls (lv_sub hl [1, 2, 3, 4, 5, 6] rfl)
                  · have hf := ifF c27 hf
                    refine lv_aload_n hx hb dX10_next_144 rfl (lv_at hl 1 rfl) ?_
                    refine gx_X10_15_1480 E hX hD hP dX10_next_145 ?_
                    refine lv_iload hx hb dX10_next_148 (lv_at hl 6 rfl) ?_
                    obtain ⟨v28, hv28, hf⟩ := bdP hf
                    refine p_iald hx hb hX.1 hP (hD.1 _ _ dX_1160) sgX10_next_p5_raI1160 hv28 dX10_next_150 ?_
                    refine lv_iload hx hb dX10_next_151 (lv_at hl 0 rfl) ?_
                    refine lv_iadd hx hb dX10_next_153 ?_
                    refine lv_aload_n hx hb dX10_next_154 rfl (lv_at hl 1 rfl) ?_
                    refine gx_X10_15_1480 E hX hD hP dX10_next_155 ?_
                    refine lv_iload hx hb dX10_next_158 (lv_at hl 5 rfl) ?_
                    obtain ⟨v29, hv29, hf⟩ := bdP hf
                    refine p_iald hx hb hX.1 hP (hD.1 _ _ dX_1160) sgX10_next_p5_raI1160 hv29 dX10_next_160 ?_
                    refine lv_icmp_lt (tgt := 167) hx hb dX10_next_161 (by decide) (fun c30 => ?_) (fun c30 => ?_)
                    · have hf := ifT c30 hf
                      refine lv_aload_n hx hb dX10_next_167 rfl (lv_at hl 1 rfl) ?_
                      refine gx_X10_15_1480 E hX hD hP dX10_next_168 ?_
                      refine lv_iload hx hb dX10_next_171 (lv_at hl 5 rfl) ?_
                      refine lv_aload_n hx hb dX10_next_173 rfl (lv_at hl 1 rfl) ?_
                      refine gx_X10_15_1480 E hX hD hP dX10_next_174 ?_
                      refine lv_iload hx hb dX10_next_177 (lv_at hl 6 rfl) ?_
                      obtain ⟨v31, hv31, hf⟩ := bdP hf
                      refine p_iald hx hb hX.1 hP (hD.1 _ _ dX_1160) sgX10_next_p5_raI1160 hv31 dX10_next_179 ?_
                      refine lv_iload hx hb dX10_next_180 (lv_at hl 0 rfl) ?_
                      refine lv_iadd hx hb dX10_next_182 ?_
                      obtain ⟨a32, ha32, hf⟩ := bdP hf
                      refine p_iast hx hb hX.1 hP hS (hA _ (PA_c (hD.1 _ _ dX_1160))) (hD.1 _ _ dX_1160) sgX10_next_p5_raI1160 ha32 sgX10_next_p5_aI1160 dX10_next_183 (fun H locs hP hS => ?_)
                      refine lv_iconst hx hb dX10_next_184 ic_1 ?_
                      refine lv_istore_n (lv' := [(3, .int 1), (6, .int k23), (0, .ref (ad 1480)), (1, .int x1), (2, .int x2), (4, .int y15), (5, .int y19)]) hx hb dX10_next_185 rfl hl (by decide) rfl (fun ls hl => ?_)
                      exact J186 1 a32 hf H locs hP hS ls (lv_sub hl [2, 3, 4, 0, 5, 6] rfl)
                    · have hf := ifF c30 hf
                      refine lv_goto (tgt := 186) hx hb dX10_next_164 (by decide) ?_
                      exact J186 y18 a20 hf H locs hP hS ls (lv_sub hl [1, 2, 3, 4, 5, 6] rfl)
                refine lv_icmp_ne (tgt := 126) hx hb dX10_next_118 (by decide) (fun c33 => ?_) (fun c33 => ?_)
                · have hf := ifF c33 hf
                  refine lv_aload_n hx hb dX10_next_126 rfl (lv_at hl 0 rfl) ?_
                  refine lv_iload hx hb dX10_next_127 (lv_at hl 4 rfl) ?_
                  refine lv_iload hx hb dX10_next_129 (lv_at hl 5 rfl) ?_
                  refine lv_iload_n hx hb dX10_next_131 rfl (lv_at hl 2 rfl) ?_
                  obtain ⟨v34, u35, hf⟩ := bdP hf
                  refine cx_X10_60_X10_cost_p5 E hX hD hP hS hA (kxX10_cost_p5 l D G hD sgX10_next_p5_rzI1485 sgX10_next_p5_raI1164 sgX10_next_p5_raI1170 rfl sgX10_next_p5_rpR2 sgX10_next_p5_rpR5 sgX10_next_p5_rpR6 sgX10_next_p5_rgG0 u35) ⟨rfl, rfl⟩ ⟨Nat.le_of_ble_eq_true rfl, Nat.le_of_ble_eq_true rfl⟩ ⟨Nat.zero_le _, Nat.zero_le _⟩ hl.1 (Nat.le_of_ble_eq_true rfl) dX10_next_132 (fun H locs hP hS => ?_)
                  exact J135 v34 hf H locs hP hS ls (lv_sub hl [0, 1, 2, 3, 4, 5] rfl)
                · have hf := ifT c33 hf
                  refine lv_ldc hx hb hown (hts _ q1205) dX10_next_121 ?_
                  refine lv_goto (tgt := 135) hx hb dX10_next_123 (by decide) ?_
                  exact J135 1000000 hf H locs hP hS ls (lv_sub hl [0, 1, 2, 3, 4, 5] rfl)
            obtain ⟨ex94, hlp94, hf⟩ := bdP hf
            refine LP94 (y14, 0, a16) ex94 hlp94 H locs hP hS ls (lv_sub hl [1, 2, 3, 4, 5, 0] rfl) ?_
            intro y36 a37 hex94 H locs hP hS ls hl
            subst ex94
            dsimp only at hf
            obtain ⟨v38, hv38, hf⟩ := bdP hf
            refine lv_iinc (v := v38) (lv' := [(4, .int v38), (0, .ref (ad 1480)), (1, .int x1), (2, .int x2), (3, .int y36)]) hx hb dX10_next_192 hl (k := 4) rfl (Option.some.inj hv38) (by decide) rfl (fun ls hl => ?_)
            refine lv_goto (tgt := 76) hx hb dX10_next_195 (by decide) ?_
            exact ih76 _ (Option.some.inj hf).symm H locs hP hS ls (lv_sub hl [1, 2, 3, 4, 0] rfl) KE76_0
        obtain ⟨ex76, hlp76, hf⟩ := bdP hf
        refine LP76 (0, 0, a12) ex76 hlp76 H locs hP hS ls (lv_sub hl [2, 3, 4, 1, 0] rfl) ?_
        intro y39 a40 hex76 H locs hP hS ls hl
        subst ex76
        dsimp only at hf
        refine lv_goto (tgt := 67) hx hb dX10_next_198 (by decide) ?_
        exact ih67 _ (Option.some.inj hf).symm H locs hP hS ls (lv_sub hl [0, 1, 2, 3] rfl) KE67_0
    obtain ⟨ex67, hlp67, hf⟩ := bdP hf
    refine LP67 (1, a10) ex67 hlp67 H locs hP hS ls (lv_sub hl [1, 2, 3, 0] rfl) ?_
    intro a41 hex67 H locs hP hS ls hl
    subst ex67
    refine lv_iconst hx hb dX10_next_201 ic_0 ?_
    refine lv_istore (lv' := [(4, .int 0), (0, .ref (ad 1480)), (1, .int x1), (2, .int x2)]) hx hb dX10_next_202 hl (by decide) rfl (fun ls hl => ?_)
    have LP204 : ∀ (st204 : Int32) (ex204 : (Int32) ⊕ (Unit)), loop (xo_X10_next_p5_L204 (σ.1 1485) (σ.1 2008) (σ.2.2.1 1164) (σ.2.2.1 1170) nr (fun k => σ.1 (6000 + 16 * k + 2)) (fun k => σ.1 (6000 + 16 * k + 5)) (fun k => σ.1 (6000 + 16 * k + 6)) (fun k => σ.2.2.1 (4000 + 16 * k)) x1 x2 a41) st204 = some ex204 → ∀ (H : Heap) (locs : List Loc), PIC D clsA G dsc ad (sgX10_next_p5 σ a41) H → va_S A s.heap H locs → ∀ (ls : Array Slot), lv_has ls 7 [(0, .ref (ad 1480)), (1, .int x1), (2, .int x2), (4, .int st204)] → (∀ (y57 : Int32), ex204 = (.inl y57) → ∀ (H : Heap) (locs : List Loc), PIC D clsA G dsc ad (sgX10_next_p5 σ a41) H → va_S A s.heap H locs → ∀ (ls : Array Slot), lv_has ls 7 [(4, .int y57)] → W p l e rmX10_next_p5 s m args below meth c0 H locs 0 0 Q (F0 m 280 ls [])) → (ex204 = (.inr ()) → ∀ (H : Heap) (locs : List Loc), PIC D clsA G dsc ad (sgX10_next_p5 σ a41) H → va_S A s.heap H locs → ∀ (ls : Array Slot), lv_has ls 7 [] → W p l e rmX10_next_p5 s m args below meth c0 H locs 0 0 Q (F0 m 289 ls [])) → W p l e rmX10_next_p5 s m args below meth c0 H locs 0 0 Q (F0 m 204 ls []) := by
      refine loop_P (fun st204 ex204 o204 hf ih204 hx204 => ?_)
      obtain ⟨y42, rfl⟩ : ∃ z, z = st204 := ⟨_, rfl⟩
      intro H locs (hP : PIC D clsA G dsc ad (sgX10_next_p5 σ a41) H) hS ls (hl : lv_has ls 7 [(0, .ref (ad 1480)), (1, .int x1), (2, .int x2), (4, .int y42)]) KE204_0 KE204_1
      dsimp only [xo_X10_next_p5_L204] at hf
      refine lv_iload hx hb dX10_next_204 (lv_at hl 3 rfl) ?_
      refine lv_aload_n hx hb dX10_next_206 rfl (lv_at hl 0 rfl) ?_
      refine gx_X10_3_1480 E hX hD hP dX10_next_207 ?_
      refine gx_X10_19_1000 E hX hD hP dX10_next_210 ?_
      refine gx_X10_57_2000 (v := (σ.1 2008)) E hX hD hP sgX10_next_p5_rzI2008 dX10_next_213 ?_
      refine lv_icmp_ge (tgt := 289) hx hb dX10_next_216 (by decide) (fun c43 => ?_) (fun c43 => ?_)
      · have hf := ifT c43 hf
        exact KE204_1  (hx204 _ (Option.some.inj hf).symm).symm H locs hP hS ls (lv_sub hl [] rfl)
      · have hf := ifF c43 hf
        refine lv_aload_n hx hb dX10_next_219 rfl (lv_at hl 0 rfl) ?_
        refine gx_X10_15_1480 E hX hD hP dX10_next_220 ?_
        refine lv_iload_n hx hb dX10_next_223 rfl (lv_at hl 1 rfl) ?_
        obtain ⟨v44, hv44, hf⟩ := bdP hf
        refine p_iald hx hb hX.1 hP (hD.1 _ _ dX_1160) sgX10_next_p5_raI1160 hv44 dX10_next_224 ?_
        refine lv_ldc hx hb hown (hts _ q1205) dX10_next_225 ?_
        refine lv_icmp_ge (tgt := 289) hx hb dX10_next_227 (by decide) (fun c45 => ?_) (fun c45 => ?_)
        · have hf := ifT c45 hf
          exact KE204_1  (hx204 _ (Option.some.inj hf).symm).symm H locs hP hS ls (lv_sub hl [] rfl)
        · have hf := ifF c45 hf
          refine lv_aload_n hx hb dX10_next_230 rfl (lv_at hl 0 rfl) ?_
          refine gx_X10_15_1480 E hX hD hP dX10_next_231 ?_
          refine lv_iload hx hb dX10_next_234 (lv_at hl 3 rfl) ?_
          obtain ⟨v46, hv46, hf⟩ := bdP hf
          refine p_iald hx hb hX.1 hP (hD.1 _ _ dX_1160) sgX10_next_p5_raI1160 hv46 dX10_next_236 ?_
          refine lv_ldc hx hb hown (hts _ q1205) dX10_next_237 ?_
          have J283 : xo_X10_next_p5_J283 y42 = some o204 → ∀ (H : Heap) (locs : List Loc), PIC D clsA G dsc ad (sgX10_next_p5 σ a41) H → va_S A s.heap H locs → ∀ (ls : Array Slot), lv_has ls 7 [(0, .ref (ad 1480)), (1, .int x1), (2, .int x2), (4, .int y42)] → W p l e rmX10_next_p5 s m args below meth c0 H locs 0 0 Q (F0 m 283 ls []) := by
            intro  hf H locs hP hS ls hl
            unfold xo_X10_next_p5_J283 at hf
            obtain ⟨v47, hv47, hf⟩ := bdP hf
            refine lv_iinc (v := v47) (lv' := [(4, .int v47), (0, .ref (ad 1480)), (1, .int x1), (2, .int x2)]) hx hb dX10_next_283 hl (k := 3) rfl (Option.some.inj hv47) (by decide) rfl (fun ls hl => ?_)
            refine lv_goto (tgt := 204) hx hb dX10_next_286 (by decide) ?_
            exact ih204 _ (Option.some.inj hf).symm H locs hP hS ls (lv_sub hl [1, 2, 3, 0] rfl) KE204_0 KE204_1
          refine lv_icmp_ge (tgt := 283) hx hb dX10_next_239 (by decide) (fun c48 => ?_) (fun c48 => ?_)
          · have hf := ifT c48 hf
            exact J283  hf H locs hP hS ls (lv_sub hl [0, 1, 2, 3] rfl)
          · have hf := ifF c48 hf
            refine lv_aload_n hx hb dX10_next_242 rfl (lv_at hl 0 rfl) ?_
            refine lv_iload_n hx hb dX10_next_243 rfl (lv_at hl 1 rfl) ?_
            refine lv_iload hx hb dX10_next_244 (lv_at hl 3 rfl) ?_
            refine lv_iload_n hx hb dX10_next_246 rfl (lv_at hl 2 rfl) ?_
            obtain ⟨v49, u50, hf⟩ := bdP hf
            refine cx_X10_60_X10_cost_p5 E hX hD hP hS hA (kxX10_cost_p5 l D G hD sgX10_next_p5_rzI1485 sgX10_next_p5_raI1164 sgX10_next_p5_raI1170 rfl sgX10_next_p5_rpR2 sgX10_next_p5_rpR5 sgX10_next_p5_rpR6 sgX10_next_p5_rgG0 u50) ⟨rfl, rfl⟩ ⟨Nat.le_of_ble_eq_true rfl, Nat.le_of_ble_eq_true rfl⟩ ⟨Nat.zero_le _, Nat.zero_le _⟩ hl.1 (Nat.le_of_ble_eq_true rfl) dX10_next_247 (fun H locs hP hS => ?_)
            refine lv_ldc hx hb hown (hts _ q1205) dX10_next_250 ?_
            refine lv_icmp_ge (tgt := 283) hx hb dX10_next_252 (by decide) (fun c51 => ?_) (fun c51 => ?_)
            · have hf := ifT c51 hf
              exact J283  hf H locs hP hS ls (lv_sub hl [0, 1, 2, 3] rfl)
            · have hf := ifF c51 hf
              refine lv_aload_n hx hb dX10_next_255 rfl (lv_at hl 0 rfl) ?_
              refine lv_iload_n hx hb dX10_next_256 rfl (lv_at hl 1 rfl) ?_
              refine lv_iload hx hb dX10_next_257 (lv_at hl 3 rfl) ?_
              refine lv_iload_n hx hb dX10_next_259 rfl (lv_at hl 2 rfl) ?_
              obtain ⟨v52, u53, hf⟩ := bdP hf
              refine cx_X10_60_X10_cost_p5 E hX hD hP hS hA (kxX10_cost_p5 l D G hD sgX10_next_p5_rzI1485 sgX10_next_p5_raI1164 sgX10_next_p5_raI1170 rfl sgX10_next_p5_rpR2 sgX10_next_p5_rpR5 sgX10_next_p5_rpR6 sgX10_next_p5_rgG0 u53) ⟨rfl, rfl⟩ ⟨Nat.le_of_ble_eq_true rfl, Nat.le_of_ble_eq_true rfl⟩ ⟨Nat.zero_le _, Nat.zero_le _⟩ hl.1 (Nat.le_of_ble_eq_true rfl) dX10_next_260 (fun H locs hP hS => ?_)
              refine lv_aload_n hx hb dX10_next_263 rfl (lv_at hl 0 rfl) ?_
              refine gx_X10_15_1480 E hX hD hP dX10_next_264 ?_
              refine lv_iload hx hb dX10_next_267 (lv_at hl 3 rfl) ?_
              obtain ⟨v54, hv54, hf⟩ := bdP hf
              refine p_iald hx hb hX.1 hP (hD.1 _ _ dX_1160) sgX10_next_p5_raI1160 hv54 dX10_next_269 ?_
              refine lv_iadd hx hb dX10_next_270 ?_
              refine lv_aload_n hx hb dX10_next_271 rfl (lv_at hl 0 rfl) ?_
              refine gx_X10_15_1480 E hX hD hP dX10_next_272 ?_
              refine lv_iload_n hx hb dX10_next_275 rfl (lv_at hl 1 rfl) ?_
              obtain ⟨v55, hv55, hf⟩ := bdP hf
              refine p_iald hx hb hX.1 hP (hD.1 _ _ dX_1160) sgX10_next_p5_raI1160 hv55 dX10_next_276 ?_
              refine lv_icmp_ne (tgt := 283) hx hb dX10_next_277 (by decide) (fun c56 => ?_) (fun c56 => ?_)
              · have hf := ifF c56 hf
                exact J283  hf H locs hP hS ls (lv_sub hl [0, 1, 2, 3] rfl)
              · have hf := ifT c56 hf
                exact KE204_0 _ (hx204 _ (Option.some.inj hf).symm).symm H locs hP hS ls (lv_sub hl [3] rfl)
    obtain ⟨ex204, hlp204, hf⟩ := bdP hf
    refine LP204 0 ex204 hlp204 H locs hP hS ls (lv_sub hl [1, 2, 3, 0] rfl) ?_ ?_
    · intro y57 hex204 H locs hP hS ls hl
      subst ex204
      dsimp only [sE_l, sE_r] at hf
      refine lv_iload hx hb dX10_next_280 (lv_at hl 0 rfl) ?_
      cases hf
      rw [hQ]; exact g_iret hx hb hr hlk hP hS dX10_next_282
    · intro  hex204 H locs hP hS ls hl
      subst ex204
      dsimp only [sE_l, sE_r] at hf
      refine lv_bipush hx hb dX10_next_289 bp_m2 ?_
      cases hf
      rw [hQ]; exact g_iret hx hb hr hlk hP hS dX10_next_291
  · have hf := ifT c1 hf
    refine lv_bipush hx hb dX10_next_14 bp_m2 ?_
    cases hf
    rw [hQ]; exact g_iret hx hb hr hlk hP hS dX10_next_16
theorem kxX10_next_p5 (l : Launch) (D : va_G) (G : Nat → ClassId) {dsc : Nat → Option Dsc} {ad : Nat → Nat} {σ : Sto} {nr nw nu : Nat} (hD : XD dsc nr nw nu) {x1 : Int32} {x2 : Int32} {r_ : Int32} {w_aI1160 : Nat → Int32} {z_p5_many : Int32} (e_zI1485 : σ.1 1485 = z_p5_many) {z_L_places : Int32} (e_zI2008 : σ.1 2008 = z_L_places) {z_L_to : Int32} (e_zI2013 : σ.1 2013 = z_L_to) {a_p5_far : Nat → Int32} (e_aI1160 : σ.2.2.1 1160 = a_p5_far) {a_p5_row : Nat → Int32} (e_aI1164 : σ.2.2.1 1164 = a_p5_row) {a_UNIT : Nat → Int32} (e_aI1170 : σ.2.2.1 1170 = a_UNIT) {n_r : Nat} (e_nN0 : nr = n_r) {p_road_hours : Nat → Int32} (e_pR2 : (fun k => σ.1 (6000 + 16 * k + 2)) = p_road_hours) {p_road_wait : Nat → Int32} (e_pR5 : (fun k => σ.1 (6000 + 16 * k + 5)) = p_road_wait) {p_road_number : Nat → Int32} (e_pR6 : (fun k => σ.1 (6000 + 16 * k + 6)) = p_road_number) {g_grid : Nat → Nat → Int32} (e_gG0 : (fun k => σ.2.2.1 (4000 + 16 * k)) = g_grid) (hf : xo_X10_next_p5 z_p5_many z_L_places z_L_to a_p5_far a_p5_row a_UNIT n_r p_road_hours p_road_wait p_road_number g_grid x1 x2 = some (r_, w_aI1160)) : CtG l D G dsc ad yX10_next (ws_ yX10_next cX10_next 7 (Option.some Jvm.ClassFile.FieldType.int)) rmX10_next_p5 [.ref (ad 1480), .int x1, .int x2] σ (some (.int r_)) (aI σ 1160 w_aI1160) := by
  subst e_zI1485
  subst e_zI2008
  subst e_zI2013
  subst e_aI1160
  subst e_aI1164
  subst e_aI1170
  subst e_nN0
  subst e_pR2
  subst e_pR5
  subst e_pR6
  subst e_gG0
  exact p_ctG (by decide +kernel) (Nat.le_of_ble_eq_true rfl) (fun p e s m below meth c0 ls A E hP hX hA hS hl => wkX10_next_p5 E hX hD hA hf rfl hP hS hl)
theorem gx_X9_3_1480 (E : EN p s m args meth c0 RX9 cc nL ret) (hX : KX D G ad A s s.heap) (hD : XD dsc nr nw nu) (hP : PIC D clsA G dsc ad σ H) (hdg : decode cc pc = .ok (.getfield 3, 3)) (kk : W p l e R s m args below meth c0 H locs cells slots Q (F0 m (pc + 3) ls (.ref (ad 1000) :: rest))) : W p l e R s m args below meth c0 H locs cells slots Q (F0 m pc ls (.ref (ad 1480) :: rest)) :=
  p_get E.1.1 E.1.2.1 E.1.2.2.2.2 in_X12 E.1.2.2.2.1 hX.1 hP (hD.1 _ _ dX_1480) rfl 2 (by decide) (E.1.2.2.2.2 _ q435) (fun _ h => h) rfl rfl hdg kk
theorem cx_X9_32_X10_next_p5 {rm : Room} {σ1 : Sto} {x1 : Int32} {x2 : Int32} {r : Int32} (E : EN p s m args meth c0 RX9 cc nL ret) (hX : KX D G ad A s s.heap) (hD : XD dsc nr nw nu) (hP : PIC D clsA G dsc ad σ H) (hS : va_S A s.heap H locs) (hA : ∀ q, PA dsc ad s.heap.size q → A q) (hM : CtG l D G dsc ad yX10_next (ws_ yX10_next cX10_next 7 (Option.some Jvm.ClassFile.FieldType.int)) rm [.ref (ad 1480), .int x1, .int x2] σ (some (.int r)) σ1) (hz : rm.cells = 0 ∧ rm.slots = 0) (hR : rm.frames + 1 ≤ R.frames ∧ 8 + (7 + 11) + rm.locals ≤ R.locals) (hcs : cells ≤ R.cells ∧ slots ≤ R.slots) (hsz : ls.size = nL) (hW : (rest.map fun v => v.category).sum ≤ 8) (hdg : decode cc pc = .ok (.invokevirtual 32, 3)) (kk : ∀ (H1 : Heap) (locs1 : List Loc), PIC D clsA G dsc ad σ1 H1 → va_S A s.heap H1 locs1 → W p l e R s m args below meth c0 H1 locs1 cells slots Q (F0 m (pc + 3) ls (.int r :: rest))) : W p l e R s m args below meth c0 H locs cells slots Q (F0 m pc ls (.int x2 :: .int x1 :: .ref (ad 1480) :: rest)) :=
  p_gU (As := [.int x1, .int x2]) (rest := rest) E.1 hX hP hS hA hM (cw_any (owner := "ShutPasses$Plan") (x := ⟨"ShutPasses$Plan", "next", "(II)I"⟩) (y := yX10_next) (C := "ShutPasses$Tries") (index := 32) (own := RX9) 2 E.1.2.2.2.2 (lw_meth q1204) rfl hz.1 hz.2 (E.1.2.2.2.2 _ q1288) (E.1.2.2.2.2 _ q1290) (va_Decl.abs (hX.2.1.1 _ q1289 rfl)) (E.1.2.2.2.2 _ q1312) (E.1.2.2.2.2 _ q1203) (E.1.2.2.2.2 _ q136) (by decide +kernel) hR) (hD.1 _ _ dX_1480) rfl rfl rfl hsz rfl hW hdg hcs kk
/-! X9_hours_p5 (I)I -/
def sgX9_hours_p5 (σ : Sto) (w0 : Nat → Int32) : Sto := aI σ 1160 w0
theorem sgX9_hours_p5_self (σ : Sto) : sgX9_hours_p5 σ (σ.2.2.1 1160) = σ := by
  unfold sgX9_hours_p5
  simp only [zI_self, zL_self, aI_self, aL_self]
theorem sgX9_hours_p5_aI1160 {σ : Sto} {w0 : Nat → Int32} {g : Nat → Int32} : aI (sgX9_hours_p5 σ w0) 1160 g = sgX9_hours_p5 σ g := aI_aI _ 1160 _ _
theorem sgX9_hours_p5_rzI1485 {σ : Sto} {w0 : Nat → Int32} : (sgX9_hours_p5 σ w0).1 1485 = σ.1 1485 := rfl
theorem sgX9_hours_p5_rzI2008 {σ : Sto} {w0 : Nat → Int32} : (sgX9_hours_p5 σ w0).1 2008 = σ.1 2008 := rfl
theorem sgX9_hours_p5_rzI2012 {σ : Sto} {w0 : Nat → Int32} : (sgX9_hours_p5 σ w0).1 2012 = σ.1 2012 := rfl
theorem sgX9_hours_p5_rzI2013 {σ : Sto} {w0 : Nat → Int32} : (sgX9_hours_p5 σ w0).1 2013 = σ.1 2013 := rfl
theorem sgX9_hours_p5_rzI2027 {σ : Sto} {w0 : Nat → Int32} : (sgX9_hours_p5 σ w0).1 2027 = σ.1 2027 := rfl
theorem sgX9_hours_p5_rzI2032 {σ : Sto} {w0 : Nat → Int32} : (sgX9_hours_p5 σ w0).1 2032 = σ.1 2032 := rfl
theorem sgX9_hours_p5_raI1160 {σ : Sto} {w0 : Nat → Int32} : (sgX9_hours_p5 σ w0).2.2.1 1160 = w0 := rfl
theorem sgX9_hours_p5_raI1164 {σ : Sto} {w0 : Nat → Int32} : (sgX9_hours_p5 σ w0).2.2.1 1164 = σ.2.2.1 1164 := rfl
theorem sgX9_hours_p5_raI1170 {σ : Sto} {w0 : Nat → Int32} : (sgX9_hours_p5 σ w0).2.2.1 1170 = σ.2.2.1 1170 := rfl
theorem sgX9_hours_p5_raI2037 {σ : Sto} {w0 : Nat → Int32} : (sgX9_hours_p5 σ w0).2.2.1 2037 = σ.2.2.1 2037 := rfl
theorem sgX9_hours_p5_raI2043 {σ : Sto} {w0 : Nat → Int32} : (sgX9_hours_p5 σ w0).2.2.1 2043 = σ.2.2.1 2043 := rfl
theorem sgX9_hours_p5_rpR2 {σ : Sto} {w0 : Nat → Int32} : (fun k => (sgX9_hours_p5 σ w0).1 (6000 + 16 * k + 2)) = (fun k => σ.1 (6000 + 16 * k + 2)) := by
  funext k
  unfold sgX9_hours_p5
  dsimp only [zI, zL, aI, aL]
  repeat rw [if_neg (by omega)]
theorem sgX9_hours_p5_rpR5 {σ : Sto} {w0 : Nat → Int32} : (fun k => (sgX9_hours_p5 σ w0).1 (6000 + 16 * k + 5)) = (fun k => σ.1 (6000 + 16 * k + 5)) := by
  funext k
  unfold sgX9_hours_p5
  dsimp only [zI, zL, aI, aL]
  repeat rw [if_neg (by omega)]
theorem sgX9_hours_p5_rpR6 {σ : Sto} {w0 : Nat → Int32} : (fun k => (sgX9_hours_p5 σ w0).1 (6000 + 16 * k + 6)) = (fun k => σ.1 (6000 + 16 * k + 6)) := by
  funext k
  unfold sgX9_hours_p5
  dsimp only [zI, zL, aI, aL]
  repeat rw [if_neg (by omega)]
theorem sgX9_hours_p5_rpW1 {σ : Sto} {w0 : Nat → Int32} : (fun k => (sgX9_hours_p5 σ w0).1 (8000 + 16 * k + 1)) = (fun k => σ.1 (8000 + 16 * k + 1)) := by
  funext k
  unfold sgX9_hours_p5
  dsimp only [zI, zL, aI, aL]
  repeat rw [if_neg (by omega)]
theorem sgX9_hours_p5_rpW2 {σ : Sto} {w0 : Nat → Int32} : (fun k => (sgX9_hours_p5 σ w0).1 (8000 + 16 * k + 2)) = (fun k => σ.1 (8000 + 16 * k + 2)) := by
  funext k
  unfold sgX9_hours_p5
  dsimp only [zI, zL, aI, aL]
  repeat rw [if_neg (by omega)]
theorem sgX9_hours_p5_rgG0 {σ : Sto} {w0 : Nat → Int32} : (fun k => (sgX9_hours_p5 σ w0).2.2.1 (4000 + 16 * k)) = (fun k => σ.2.2.1 (4000 + 16 * k)) := by
  funext k
  unfold sgX9_hours_p5
  dsimp only [zI, zL, aI, aL]
  repeat rw [if_neg (by omega)]
abbrev rmX9_hours_p5 : Room := { frames := 4, cells := 0, slots := 0, locals := 96 }
set_option maxHeartbeats 4000000 in
theorem wkX9_hours_p5 {x1 : Int32} {r_ : Int32} {w_aI1160 : Nat → Int32} (E : EN p s m args meth c0 RX9 cX9_hours 9 (Option.some Jvm.ClassFile.FieldType.int)) (hX : KX D G ad A s s.heap) (hD : XD dsc nr nw nu) (hA : ∀ q, PA dsc ad s.heap.size q → A q) (hf : xo_X9_hours_p5 (σ.1 1485) (σ.1 2008) (σ.1 2012) (σ.1 2013) (σ.1 2027) (σ.1 2032) (σ.2.2.1 1160) (σ.2.2.1 1164) (σ.2.2.1 1170) (σ.2.2.1 2037) (σ.2.2.1 2043) nr nw (fun k => σ.1 (6000 + 16 * k + 2)) (fun k => σ.1 (6000 + 16 * k + 5)) (fun k => σ.1 (6000 + 16 * k + 6)) (fun k => σ.1 (8000 + 16 * k + 1)) (fun k => σ.1 (8000 + 16 * k + 2)) (fun k => σ.2.2.1 (4000 + 16 * k)) x1 = some (r_, w_aI1160)) (hQ : Q = MQ below (va_G1 (some (.int r_)) (fun t => PIC D clsA G dsc ad (sgX9_hours_p5 σ w_aI1160) t.heap) A) args s 0 0 A) (hP : PIC D clsA G dsc ad σ H) (hS : va_S A s.heap H locs) (hl : lv_has ls 9 [(0, .ref (ad 1480)), (1, .int x1)]) : W p l e rmX9_hours_p5 s m args below meth c0 H locs 0 0 Q (F0 m 0 ls []) := by
  obtain ⟨⟨hx, hb, hml, hown, hts⟩, hr, hlk⟩ := id E
  have hP := hP.to (sgX9_hours_p5_self σ).symm
  unfold xo_X9_hours_p5 at hf
  refine lv_aload_n hx hb dX9_hours_0 rfl (lv_at hl 0 rfl) ?_
  refine gx_X9_3_1480 E hX hD hP dX9_hours_1 ?_
  refine gx_X9_15_1000 E hX hD hP dX9_hours_4 ?_
  refine gx_X9_19_2000 (v := (σ.1 2012)) E hX hD hP sgX9_hours_p5_rzI2012 dX9_hours_7 ?_
  refine lv_istore_n (lv' := [(2, .int (σ.1 2012)), (0, .ref (ad 1480)), (1, .int x1)]) hx hb dX9_hours_10 rfl hl (by decide) rfl (fun ls hl => ?_)
  refine lv_aload_n hx hb dX9_hours_11 rfl (lv_at hl 1 rfl) ?_
  refine gx_X9_3_1480 E hX hD hP dX9_hours_12 ?_
  refine lv_iload_n hx hb dX9_hours_15 rfl (lv_at hl 0 rfl) ?_
  refine lv_iconst hx hb dX9_hours_16 ic_0 ?_
  refine lv_iload_n hx hb dX9_hours_17 rfl (lv_at hl 2 rfl) ?_
  obtain ⟨v1, u2, hf⟩ := bdP hf
  refine cx_X9_25_X1_seeing E hX hD hP hS hA (kxX1_seeing l D G hD sgX9_hours_p5_rzI2027 sgX9_hours_p5_raI1170 sgX9_hours_p5_raI2043 u2) ⟨rfl, rfl⟩ ⟨Nat.le_of_ble_eq_true rfl, Nat.le_of_ble_eq_true rfl⟩ ⟨Nat.zero_le _, Nat.zero_le _⟩ hl.1 (Nat.le_of_ble_eq_true rfl) dX9_hours_18 (fun H locs hP hS => ?_)
  refine lv_istore_n (lv' := [(3, .int v1), (2, .int (σ.1 2012)), (0, .ref (ad 1480)), (1, .int x1)]) hx hb dX9_hours_21 rfl hl (by decide) rfl (fun ls hl => ?_)
  refine lv_iconst hx hb dX9_hours_22 ic_0 ?_
  refine lv_istore (lv' := [(4, .int 0), (3, .int v1), (2, .int (σ.1 2012)), (0, .ref (ad 1480)), (1, .int x1)]) hx hb dX9_hours_23 hl (by decide) rfl (fun ls hl => ?_)
  refine lv_iconst hx hb dX9_hours_25 ic_0 ?_
  refine lv_istore (lv' := [(5, .int 0), (4, .int 0), (3, .int v1), (2, .int (σ.1 2012)), (0, .ref (ad 1480)), (1, .int x1)]) hx hb dX9_hours_26 hl (by decide) rfl (fun ls hl => ?_)
  have LP28 : ∀ (st28 : Int32 × Int32 × Int32 × Int32 × (Nat → Int32)) (ex28 : ((Nat → Int32)) ⊕ (Int32 × (Nat → Int32))), loop (xo_X9_hours_p5_L28 (σ.1 1485) (σ.1 2008) (σ.1 2013) (σ.1 2027) (σ.1 2032) (σ.2.2.1 1164) (σ.2.2.1 1170) (σ.2.2.1 2037) (σ.2.2.1 2043) nr nw (fun k => σ.1 (6000 + 16 * k + 2)) (fun k => σ.1 (6000 + 16 * k + 5)) (fun k => σ.1 (6000 + 16 * k + 6)) (fun k => σ.1 (8000 + 16 * k + 1)) (fun k => σ.1 (8000 + 16 * k + 2)) (fun k => σ.2.2.1 (4000 + 16 * k)) x1) st28 = some ex28 → ∀ (H : Heap) (locs : List Loc), PIC D clsA G dsc ad (sgX9_hours_p5 σ (st28.2.2.2.2)) H → va_S A s.heap H locs → ∀ (ls : Array Slot), lv_has ls 9 [(0, .ref (ad 1480)), (1, .int x1), (2, .int (st28.1)), (3, .int (st28.2.1)), (4, .int (st28.2.2.1)), (5, .int (st28.2.2.2.1))] → (∀ (a34 : Nat → Int32), ex28 = (.inl a34) → ∀ (H : Heap) (locs : List Loc), PIC D clsA G dsc ad (sgX9_hours_p5 σ a34) H → va_S A s.heap H locs → ∀ (ls : Array Slot), lv_has ls 9 [] → W p l e rmX9_hours_p5 s m args below meth c0 H locs 0 0 Q (F0 m 64 ls [])) → (∀ (y35 : Int32) (a36 : Nat → Int32), ex28 = (.inr (y35, a36)) → ∀ (H : Heap) (locs : List Loc), PIC D clsA G dsc ad (sgX9_hours_p5 σ a36) H → va_S A s.heap H locs → ∀ (ls : Array Slot), lv_has ls 9 [(4, .int y35)] → W p l e rmX9_hours_p5 s m args below meth c0 H locs 0 0 Q (F0 m 186 ls [])) → W p l e rmX9_hours_p5 s m args below meth c0 H locs 0 0 Q (F0 m 28 ls []) := by
    refine loop_P (fun st28 ex28 o28 hf ih28 hx28 => ?_)
    obtain ⟨y3, y4, y5, y6, a7⟩ := st28
    intro H locs (hP : PIC D clsA G dsc ad (sgX9_hours_p5 σ a7) H) hS ls (hl : lv_has ls 9 [(0, .ref (ad 1480)), (1, .int x1), (2, .int y3), (3, .int y4), (4, .int y5), (5, .int y6)]) KE28_0 KE28_1
    dsimp only [xo_X9_hours_p5_L28] at hf
    refine lv_iload_n hx hb dX9_hours_28 rfl (lv_at hl 2 rfl) ?_
    refine lv_aload_n hx hb dX9_hours_29 rfl (lv_at hl 0 rfl) ?_
    refine gx_X9_3_1480 E hX hD hP dX9_hours_30 ?_
    refine gx_X9_15_1000 E hX hD hP dX9_hours_33 ?_
    refine gx_X9_29_2000 (v := (σ.1 2013)) E hX hD hP sgX9_hours_p5_rzI2013 dX9_hours_36 ?_
    refine lv_icmp_eq (tgt := 186) hx hb dX9_hours_39 (by decide) (fun c8 => ?_) (fun c8 => ?_)
    · have hf := ifT c8 hf
      exact KE28_1 _ _ (hx28 _ (Option.some.inj hf).symm).symm H locs hP hS ls (lv_sub hl [4] rfl)
    · have hf := ifF c8 hf
      refine lv_aload_n hx hb dX9_hours_42 rfl (lv_at hl 0 rfl) ?_
      refine lv_iload_n hx hb dX9_hours_43 rfl (lv_at hl 2 rfl) ?_
      refine lv_iload_n hx hb dX9_hours_44 rfl (lv_at hl 3 rfl) ?_
      obtain ⟨⟨v9, a10⟩, u11, hf⟩ := bdP hf
      dsimp only at hf
      refine cx_X9_32_X10_next_p5 E hX hD hP hS hA (kxX10_next_p5 l D G hD sgX9_hours_p5_rzI1485 sgX9_hours_p5_rzI2008 sgX9_hours_p5_rzI2013 sgX9_hours_p5_raI1160 sgX9_hours_p5_raI1164 sgX9_hours_p5_raI1170 rfl sgX9_hours_p5_rpR2 sgX9_hours_p5_rpR5 sgX9_hours_p5_rpR6 sgX9_hours_p5_rgG0 u11) ⟨rfl, rfl⟩ ⟨Nat.le_of_ble_eq_true rfl, Nat.le_of_ble_eq_true rfl⟩ ⟨Nat.zero_le _, Nat.zero_le _⟩ hl.1 (Nat.le_of_ble_eq_true rfl) dX9_hours_45 (fun H locs hP hS => ?_)
      rw [sgX9_hours_p5_aI1160] at hP
      refine lv_istore (lv' := [(6, .int v9), (0, .ref (ad 1480)), (1, .int x1), (2, .int y3), (3, .int y4), (4, .int y5), (5, .int y6)]) hx hb dX9_hours_48 hl (by decide) rfl (fun ls hl => ?_)
      refine lv_iload hx hb dX9_hours_50 (lv_at hl 0 rfl) ?_
      refine lv_bipush hx hb dX9_hours_52 bp_m2 ?_
      refine lv_icmp_eq (tgt := 64) hx hb dX9_hours_54 (by decide) (fun c12 => ?_) (fun c12 => ?_)
      · have hf := ifT c12 hf
        exact KE28_0 _ (hx28 _ (Option.some.inj hf).symm).symm H locs hP hS ls (lv_sub hl [] rfl)
      · have hf := ifF c12 hf
        refine lv_iload hx hb dX9_hours_57 (lv_at hl 6 rfl) ?_
        refine lv_bipush hx hb dX9_hours_59 bp_10 ?_
        refine lv_icmp_le (tgt := 67) hx hb dX9_hours_61 (by decide) (fun c13 => ?_) (fun c13 => ?_)
        · have hf := ifT c13 hf
          refine lv_iload_n hx hb dX9_hours_67 rfl (lv_at hl 4 rfl) ?_
          refine lv_istore (lv' := [(7, .int y4), (6, .int v9), (0, .ref (ad 1480)), (1, .int x1), (2, .int y3), (3, .int y4), (4, .int y5), (5, .int y6)]) hx hb dX9_hours_68 hl (by decide) rfl (fun ls hl => ?_)
          refine lv_iload hx hb dX9_hours_70 (lv_at hl 1 rfl) ?_
          refine lv_bipush hx hb dX9_hours_72 bp_100 ?_
          have J167 : ∀ (y14 : Int32) (y15 : Int32) (y16 : Int32), xo_X9_hours_p5_J167 y4 y6 a10 y14 y15 y16 = some o28 → ∀ (H : Heap) (locs : List Loc), PIC D clsA G dsc ad (sgX9_hours_p5 σ a10) H → va_S A s.heap H locs → ∀ (ls : Array Slot), lv_has ls 9 [(0, .ref (ad 1480)), (1, .int x1), (2, .int y14), (3, .int y15), (4, .int y16), (5, .int y6), (7, .int y4)] → W p l e rmX9_hours_p5 s m args below meth c0 H locs 0 0 Q (F0 m 167 ls []) := by
            intro y14 y15 y16 hf H locs hP hS ls hl
            unfold xo_X9_hours_p5_J167 at hf
            refine lv_iload_n hx hb dX9_hours_167 rfl (lv_at hl 3 rfl) ?_
            refine lv_iload hx hb dX9_hours_168 (lv_at hl 6 rfl) ?_
            have J181 : ∀ (k17 : Int32), xo_X9_hours_p5_J181 a10 y14 y15 y16 k17 = some o28 → ∀ (H : Heap) (locs : List Loc), PIC D clsA G dsc ad (sgX9_hours_p5 σ a10) H → va_S A s.heap H locs → ∀ (ls : Array Slot), lv_has ls 9 [(0, .ref (ad 1480)), (1, .int x1), (2, .int y14), (3, .int y15), (4, .int y16)] → W p l e rmX9_hours_p5 s m args below meth c0 H locs 0 0 Q (F0 m 181 ls [.int k17]) := by
              intro k17 hf H locs hP hS ls hl
              unfold xo_X9_hours_p5_J181 at hf
              refine lv_istore (lv' := [(5, .int k17), (0, .ref (ad 1480)), (1, .int x1), (2, .int y14), (3, .int y15), (4, .int y16)]) hx hb dX9_hours_181 hl (by decide) rfl (fun ls hl => ?_)
              refine lv_goto (tgt := 28) hx hb dX9_hours_183 (by decide) ?_
              exact ih28 _ (Option.some.inj hf).symm H locs hP hS ls (lv_sub hl [1, 2, 3, 4, 5, 0] rfl) KE28_0 KE28_1
            refine lv_icmp_ne (tgt := 180) hx hb dX9_hours_170 (by decide) (fun c18 => ?_) (fun c18 => ?_)
            · have hf := ifF c18 hf
              refine lv_iconst hx hb dX9_hours_180 ic_0 ?_
              exact J181 0 hf H locs hP hS ls (lv_sub hl [0, 1, 2, 3, 4] rfl)
            · have hf := ifT c18 hf
              refine lv_iload hx hb dX9_hours_173 (lv_at hl 5 rfl) ?_
              refine lv_iconst hx hb dX9_hours_175 ic_1 ?_
              refine lv_iadd hx hb dX9_hours_176 ?_
              refine lv_goto (tgt := 181) hx hb dX9_hours_177 (by decide) ?_
              exact J181 (y6 + 1) hf H locs hP hS ls (lv_sub hl [0, 1, 2, 3, 4] rfl)
          refine lv_icmp_lt (tgt := 134) hx hb dX9_hours_74 (by decide) (fun c19 => ?_) (fun c19 => ?_)
          · have hf := ifT c19 hf
            refine lv_iload hx hb dX9_hours_134 (lv_at hl 6 rfl) ?_
            refine lv_aload_n hx hb dX9_hours_136 rfl (lv_at hl 2 rfl) ?_
            refine gx_X9_3_1480 E hX hD hP dX9_hours_137 ?_
            refine gx_X9_15_1000 E hX hD hP dX9_hours_140 ?_
            refine lv_iload_n hx hb dX9_hours_143 rfl (lv_at hl 4 rfl) ?_
            refine lv_iload hx hb dX9_hours_144 (lv_at hl 1 rfl) ?_
            refine lv_iload_n hx hb dX9_hours_146 rfl (lv_at hl 5 rfl) ?_
            obtain ⟨v20, u21, hf⟩ := bdP hf
            refine cx_X9_57_X3_cost E hX hD hP hS hA (kxX3_cost l D G hD sgX9_hours_p5_raI1170 rfl sgX9_hours_p5_rpR2 sgX9_hours_p5_rpR5 sgX9_hours_p5_rpR6 sgX9_hours_p5_rgG0 u21) ⟨rfl, rfl⟩ ⟨Nat.le_of_ble_eq_true rfl, Nat.le_of_ble_eq_true rfl⟩ ⟨Nat.zero_le _, Nat.zero_le _⟩ hl.1 (Nat.le_of_ble_eq_true rfl) dX9_hours_147 (fun H locs hP hS => ?_)
            refine lv_iadd hx hb dX9_hours_150 ?_
            obtain ⟨v22, hv22, hf⟩ := bdP hf
            refine nm_i (Option.some.inj hv22) ?_
            refine lv_istore (lv' := [(4, .int v22), (7, .int y4), (6, .int v9), (0, .ref (ad 1480)), (1, .int x1), (2, .int y3), (3, .int y4), (5, .int y6)]) hx hb dX9_hours_151 hl (by decide) rfl (fun ls hl => ?_)
            refine lv_iload hx hb dX9_hours_153 (lv_at hl 2 rfl) ?_
            refine lv_istore_n (lv' := [(2, .int v9), (4, .int v22), (7, .int y4), (6, .int v9), (0, .ref (ad 1480)), (1, .int x1), (3, .int y4), (5, .int y6)]) hx hb dX9_hours_155 rfl hl (by decide) rfl (fun ls hl => ?_)
            refine lv_aload_n hx hb dX9_hours_156 rfl (lv_at hl 4 rfl) ?_
            refine gx_X9_3_1480 E hX hD hP dX9_hours_157 ?_
            refine lv_iload_n hx hb dX9_hours_160 rfl (lv_at hl 0 rfl) ?_
            refine lv_iload_n hx hb dX9_hours_161 rfl (lv_at hl 6 rfl) ?_
            refine lv_iload_n hx hb dX9_hours_162 rfl (lv_at hl 5 rfl) ?_
            obtain ⟨v23, u24, hf⟩ := bdP hf
            refine cx_X9_25_X1_seeing E hX hD hP hS hA (kxX1_seeing l D G hD sgX9_hours_p5_rzI2027 sgX9_hours_p5_raI1170 sgX9_hours_p5_raI2043 u24) ⟨rfl, rfl⟩ ⟨Nat.le_of_ble_eq_true rfl, Nat.le_of_ble_eq_true rfl⟩ ⟨Nat.zero_le _, Nat.zero_le _⟩ hl.1 (Nat.le_of_ble_eq_true rfl) dX9_hours_163 (fun H locs hP hS => ?_)
            refine lv_istore_n (lv' := [(3, .int v23), (2, .int v9), (4, .int v22), (7, .int y4), (6, .int v9), (0, .ref (ad 1480)), (1, .int x1), (5, .int y6)]) hx hb dX9_hours_166 rfl hl (by decide) rfl (fun ls hl => ?_)
            exact J167 v9 v23 v22 hf H locs hP hS ls (lv_sub hl [5, 6, 1, 0, 2, 7, 3] rfl)
          · have hf := ifF c19 hf
            refine lv_aload_n hx hb dX9_hours_77 rfl (lv_at hl 2 rfl) ?_
            refine gx_X9_3_1480 E hX hD hP dX9_hours_78 ?_
            refine gx_X9_15_1000 E hX hD hP dX9_hours_81 ?_
            refine gx_X9_36_2000 E hX hD hP dX9_hours_84 ?_
            refine lv_iload hx hb dX9_hours_87 (lv_at hl 1 rfl) ?_
            refine lv_bipush hx hb dX9_hours_89 bp_100 ?_
            refine lv_isub hx hb dX9_hours_91 ?_
            obtain ⟨v25, u26, hf⟩ := bdP hf
            refine cx_X9_40_J2_get_Lw E hX hD hP hS hA (kxJ2_get_Lw l D G hD sgX9_hours_p5_rzI2032 sgX9_hours_p5_raI2037 u26) ⟨rfl, rfl⟩ ⟨Nat.le_of_ble_eq_true rfl, Nat.le_of_ble_eq_true rfl⟩ ⟨Nat.zero_le _, Nat.zero_le _⟩ hl.1 (Nat.le_of_ble_eq_true rfl) dX9_hours_92 (fun H locs hP hS => ?_)
            obtain ⟨v27, hv27, hf⟩ := bdP hf
            refine p_castP (ci := 16) (q := (RX19, TX19, 3)) hx hb hX.1 hP hown (hts _ q1314) hv27 hD.2.2.1 rfl dX9_hours_95 ?_
            refine r_astore (lv' := [(8, va_rf (drf ad 8000 v27)), (7, .int y4), (6, .int v9), (0, .ref (ad 1480)), (1, .int x1), (2, .int y3), (3, .int y4), (4, .int y5), (5, .int y6)]) hx hb dX9_hours_98 hl (by decide) rfl (fun ls hl => ?_)
            refine lv_iload hx hb dX9_hours_100 (lv_at hl 7 rfl) ?_
            refine r_aload hx hb dX9_hours_102 (lv_at hl 0 rfl) ?_
            obtain ⟨v28, hv28, hf⟩ := bdP hf
            refine gp_X9_48_W E hX hD hP sgX9_hours_p5_rpW2 hv28 dX9_hours_104 ?_
            refine lv_iadd hx hb dX9_hours_107 ?_
            obtain ⟨v29, hv29, hf⟩ := bdP hf
            refine nm_i (Option.some.inj hv29) ?_
            refine lv_istore (lv' := [(4, .int v29), (8, va_rf (drf ad 8000 v27)), (7, .int y4), (6, .int v9), (0, .ref (ad 1480)), (1, .int x1), (2, .int y3), (3, .int y4), (5, .int y6)]) hx hb dX9_hours_108 hl (by decide) rfl (fun ls hl => ?_)
            refine lv_iload_n hx hb dX9_hours_110 rfl (lv_at hl 7 rfl) ?_
            refine r_aload hx hb dX9_hours_111 (lv_at hl 1 rfl) ?_
            obtain ⟨v30, hv30, hf⟩ := bdP hf
            refine gp_X9_51_W E hX hD hP sgX9_hours_p5_rpW1 hv30 dX9_hours_113 ?_
            refine lv_iconst hx hb dX9_hours_116 ic_1 ?_
            refine lv_iload_n hx hb dX9_hours_117 rfl (lv_at hl 5 rfl) ?_
            refine r_aload hx hb dX9_hours_118 (lv_at hl 1 rfl) ?_
            obtain ⟨v31, hv31, hf⟩ := bdP hf
            refine gp_X9_51_W E hX hD hP sgX9_hours_p5_rpW1 hv31 dX9_hours_120 ?_
            refine lv_ishr hx hb dX9_hours_123 ?_
            refine lv_iconst hx hb dX9_hours_124 ic_1 ?_
            refine lv_iand hx hb dX9_hours_125 ?_
            refine lv_iadd hx hb dX9_hours_126 ?_
            obtain ⟨v32, u33, hf⟩ := bdP hf
            refine cx_X9_54_X1_with E hX hD hP hS hA (kxX1_with l D G hD sgX9_hours_p5_raI1170 u33) ⟨rfl, rfl⟩ ⟨Nat.le_of_ble_eq_true rfl, Nat.le_of_ble_eq_true rfl⟩ ⟨Nat.zero_le _, Nat.zero_le _⟩ hl.1 (Nat.le_of_ble_eq_true rfl) dX9_hours_127 (fun H locs hP hS => ?_)
            refine lv_istore_n (lv' := [(3, .int v32), (4, .int v29), (8, va_rf (drf ad 8000 v27)), (7, .int y4), (6, .int v9), (0, .ref (ad 1480)), (1, .int x1), (2, .int y3), (5, .int y6)]) hx hb dX9_hours_130 rfl hl (by decide) rfl (fun ls hl => ?_)
            refine lv_goto (tgt := 167) hx hb dX9_hours_131 (by decide) ?_
            exact J167 y3 v32 v29 hf H locs hP hS ls (lv_sub hl [5, 6, 7, 0, 1, 8, 3] rfl)
        · have hf := ifF c13 hf
          exact KE28_0 _ (hx28 _ (Option.some.inj hf).symm).symm H locs hP hS ls (lv_sub hl [] rfl)
  obtain ⟨ex28, hlp28, hf⟩ := bdP hf
  refine LP28 ((σ.1 2012), v1, 0, 0, (σ.2.2.1 1160)) ex28 hlp28 H locs hP hS ls (lv_sub hl [4, 5, 3, 2, 1, 0] rfl) ?_ ?_
  · intro a34 hex28 H locs hP hS ls hl
    subst ex28
    dsimp only [sE_l, sE_r] at hf
    refine lv_bipush hx hb dX9_hours_64 bp_m2 ?_
    cases hf
    rw [hQ]; exact g_iret hx hb hr hlk hP hS dX9_hours_66
  · intro y35 a36 hex28 H locs hP hS ls hl
    subst ex28
    dsimp only [sE_l, sE_r] at hf
    refine lv_iload hx hb dX9_hours_186 (lv_at hl 0 rfl) ?_
    cases hf
    rw [hQ]; exact g_iret hx hb hr hlk hP hS dX9_hours_188
theorem kxX9_hours_p5 (l : Launch) (D : va_G) (G : Nat → ClassId) {dsc : Nat → Option Dsc} {ad : Nat → Nat} {σ : Sto} {nr nw nu : Nat} (hD : XD dsc nr nw nu) {x1 : Int32} {r_ : Int32} {w_aI1160 : Nat → Int32} {z_p5_many : Int32} (e_zI1485 : σ.1 1485 = z_p5_many) {z_L_places : Int32} (e_zI2008 : σ.1 2008 = z_L_places) {z_L_from : Int32} (e_zI2012 : σ.1 2012 = z_L_from) {z_L_to : Int32} (e_zI2013 : σ.1 2013 = z_L_to) {z_Ld_size : Int32} (e_zI2027 : σ.1 2027 = z_Ld_size) {z_Lw_size : Int32} (e_zI2032 : σ.1 2032 = z_Lw_size) {a_p5_far : Nat → Int32} (e_aI1160 : σ.2.2.1 1160 = a_p5_far) {a_p5_row : Nat → Int32} (e_aI1164 : σ.2.2.1 1164 = a_p5_row) {a_UNIT : Nat → Int32} (e_aI1170 : σ.2.2.1 1170 = a_UNIT) {a_Lw_data : Nat → Int32} (e_aI2037 : σ.2.2.1 2037 = a_Lw_data) {a_L_seen : Nat → Int32} (e_aI2043 : σ.2.2.1 2043 = a_L_seen) {n_r : Nat} (e_nN0 : nr = n_r) {n_w : Nat} (e_nN1 : nw = n_w) {p_road_hours : Nat → Int32} (e_pR2 : (fun k => σ.1 (6000 + 16 * k + 2)) = p_road_hours) {p_road_wait : Nat → Int32} (e_pR5 : (fun k => σ.1 (6000 + 16 * k + 5)) = p_road_wait) {p_road_number : Nat → Int32} (e_pR6 : (fun k => σ.1 (6000 + 16 * k + 6)) = p_road_number) {p_word_road : Nat → Int32} (e_pW1 : (fun k => σ.1 (8000 + 16 * k + 1)) = p_word_road) {p_word_hours : Nat → Int32} (e_pW2 : (fun k => σ.1 (8000 + 16 * k + 2)) = p_word_hours) {g_grid : Nat → Nat → Int32} (e_gG0 : (fun k => σ.2.2.1 (4000 + 16 * k)) = g_grid) (hf : xo_X9_hours_p5 z_p5_many z_L_places z_L_from z_L_to z_Ld_size z_Lw_size a_p5_far a_p5_row a_UNIT a_Lw_data a_L_seen n_r n_w p_road_hours p_road_wait p_road_number p_word_road p_word_hours g_grid x1 = some (r_, w_aI1160)) : CtG l D G dsc ad yX9_hours (ws_ yX9_hours cX9_hours 9 (Option.some Jvm.ClassFile.FieldType.int)) rmX9_hours_p5 [.ref (ad 1480), .int x1] σ (some (.int r_)) (aI σ 1160 w_aI1160) := by
  subst e_zI1485
  subst e_zI2008
  subst e_zI2012
  subst e_zI2013
  subst e_zI2027
  subst e_zI2032
  subst e_aI1160
  subst e_aI1164
  subst e_aI1170
  subst e_aI2037
  subst e_aI2043
  subst e_nN0
  subst e_nN1
  subst e_pR2
  subst e_pR5
  subst e_pR6
  subst e_pW1
  subst e_pW2
  subst e_gG0
  exact p_ctG (by decide +kernel) (Nat.le_of_ble_eq_true rfl) (fun p e s m below meth c0 ls A E hP hX hA hS hl => wkX9_hours_p5 E hX hD hA hf rfl hP hS hl)
theorem gx_J2_48_1260 {v : Int32} (E : EN p s m args meth c0 RJ2 cc nL ret) (hX : KX D G ad A s s.heap) (hD : XD dsc nr nw nu) (hP : PIC D clsA G dsc ad σ H) (hv : σ.1 1262 = v) (hdg : decode cc pc = .ok (.getfield 48, 3)) (kk : W p l e R s m args below meth c0 H locs cells slots Q (F0 m (pc + 3) ls (.int v :: rest))) : W p l e R s m args below meth c0 H locs cells slots Q (F0 m pc ls (.ref (ad 1260) :: rest)) :=
  p_get E.1.1 E.1.2.1 E.1.2.2.2.2 in_J2 E.1.2.2.2.1 hX.1 hP (hD.1 _ _ dX_1260) rfl 2 (by decide) (E.1.2.2.2.2 _ q223) (fun _ h => h) rfl (congrArg Value.int hv) hdg kk
/-! J2_size_ru ()I -/
abbrev rmJ2_size_ru : Room := { frames := 0, cells := 0, slots := 0, locals := 0 }
set_option maxHeartbeats 4000000 in
theorem wkJ2_size_ru {r_ : Int32} (E : EN p s m args meth c0 RJ2 cJ2_size 1 (Option.some Jvm.ClassFile.FieldType.int)) (hX : KX D G ad A s s.heap) (hD : XD dsc nr nw nu) (hA : ∀ q, PA dsc ad s.heap.size q → A q) (hf : xo_J2_size_ru (σ.1 1262) = some r_) (hQ : Q = MQ below (va_G1 (some (.int r_)) (fun t => PIC D clsA G dsc ad σ t.heap) A) args s 0 0 A) (hP : PIC D clsA G dsc ad σ H) (hS : va_S A s.heap H locs) (hl : lv_has ls 1 [(0, .ref (ad 1260))]) : W p l e rmJ2_size_ru s m args below meth c0 H locs 0 0 Q (F0 m 0 ls []) := by
  obtain ⟨⟨hx, hb, hml, hown, hts⟩, hr, hlk⟩ := id E
  unfold xo_J2_size_ru at hf
  refine lv_aload_n hx hb dJ2_size_0 rfl (lv_at hl 0 rfl) ?_
  refine gx_J2_48_1260 (v := (σ.1 1262)) E hX hD hP rfl dJ2_size_1 ?_
  cases hf
  rw [hQ]; exact g_iret hx hb hr hlk hP hS dJ2_size_4
theorem kxJ2_size_ru (l : Launch) (D : va_G) (G : Nat → ClassId) {dsc : Nat → Option Dsc} {ad : Nat → Nat} {σ : Sto} {nr nw nu : Nat} (hD : XD dsc nr nw nu) {r_ : Int32} {z_ru_size : Int32} (e_zI1262 : σ.1 1262 = z_ru_size) (hf : xo_J2_size_ru z_ru_size = some r_) : CtG l D G dsc ad yJ2_size (ws_ yJ2_size cJ2_size 1 (Option.some Jvm.ClassFile.FieldType.int)) rmJ2_size_ru [.ref (ad 1260)] σ (some (.int r_)) σ := by
  subst e_zI1262
  exact p_ctG (by decide +kernel) (Nat.le_of_ble_eq_true rfl) (fun p e s m below meth c0 ls A E hP hX hA hS hl => wkJ2_size_ru E hX hD hA hf rfl hP hS hl)
theorem gx_J2_9_1260 (E : EN p s m args meth c0 RJ2 cc nL ret) (hX : KX D G ad A s s.heap) (hD : XD dsc nr nw nu) (hP : PIC D clsA G dsc ad σ H) (hdg : decode cc pc = .ok (.getfield 9, 3)) (kk : W p l e R s m args below meth c0 H locs cells slots Q (F0 m (pc + 3) ls (.ref (ad 1265) :: rest))) : W p l e R s m args below meth c0 H locs cells slots Q (F0 m pc ls (.ref (ad 1260) :: rest)) :=
  p_get E.1.1 E.1.2.1 E.1.2.2.2.2 in_J2 E.1.2.2.2.1 hX.1 hP (hD.1 _ _ dX_1260) rfl 1 (by decide) (E.1.2.2.2.2 _ q222) (fun _ h => h) rfl rfl hdg kk
/-! J2_elementData_ru (I)Ljava/lang/Object; -/
abbrev rmJ2_elementData_ru : Room := { frames := 0, cells := 0, slots := 0, locals := 0 }
set_option maxHeartbeats 4000000 in
theorem wkJ2_elementData_ru {x1 : Int32} {r_ : Int32} (E : EN p s m args meth c0 RJ2 cJ2_elementData 2 (Option.some (Jvm.ClassFile.FieldType.object "java/lang/Object"))) (hX : KX D G ad A s s.heap) (hD : XD dsc nr nw nu) (hA : ∀ q, PA dsc ad s.heap.size q → A q) (hf : xo_J2_elementData_ru (σ.2.2.1 1265) x1 = some r_) (hQ : Q = MQ below (va_G1 (some (va_rf (drf ad 10000 r_))) (fun t => PIC D clsA G dsc ad σ t.heap) A) args s 0 0 A) (hP : PIC D clsA G dsc ad σ H) (hS : va_S A s.heap H locs) (hl : lv_has ls 2 [(0, .ref (ad 1260)), (1, .int x1)]) : W p l e rmJ2_elementData_ru s m args below meth c0 H locs 0 0 Q (F0 m 0 ls []) := by
  obtain ⟨⟨hx, hb, hml, hown, hts⟩, hr, hlk⟩ := id E
  unfold xo_J2_elementData_ru at hf
  refine lv_aload_n hx hb dJ2_elementData_0 rfl (lv_at hl 0 rfl) ?_
  refine gx_J2_9_1260 E hX hD hP dJ2_elementData_1 ?_
  refine lv_iload_n hx hb dJ2_elementData_4 rfl (lv_at hl 1 rfl) ?_
  obtain ⟨v1, hv1, hf⟩ := bdP hf
  refine p_aald6 hx hb hX.1 hP (hD.1 _ _ dX_1265) rfl hv1 dJ2_elementData_5 ?_
  cases hf
  rw [hQ]; exact g_aret hx hb hr hlk hP hS dJ2_elementData_6
theorem kxJ2_elementData_ru (l : Launch) (D : va_G) (G : Nat → ClassId) {dsc : Nat → Option Dsc} {ad : Nat → Nat} {σ : Sto} {nr nw nu : Nat} (hD : XD dsc nr nw nu) {x1 : Int32} {r_ : Int32} {a_ru_data : Nat → Int32} (e_aI1265 : σ.2.2.1 1265 = a_ru_data) (hf : xo_J2_elementData_ru a_ru_data x1 = some r_) : CtG l D G dsc ad yJ2_elementData (ws_ yJ2_elementData cJ2_elementData 2 (Option.some (Jvm.ClassFile.FieldType.object "java/lang/Object"))) rmJ2_elementData_ru [.ref (ad 1260), .int x1] σ (some (va_rf (drf ad 10000 r_))) σ := by
  subst e_aI1265
  exact p_ctG (by decide +kernel) (Nat.le_of_ble_eq_true rfl) (fun p e s m below meth c0 ls A E hP hX hA hS hl => wkJ2_elementData_ru E hX hD hA hf rfl hP hS hl)
theorem cx_J2_123_J2_elementData_ru {rm : Room} {σ1 : Sto} {x1 : Int32} {r : Int32} (E : EN p s m args meth c0 RJ2 cc nL ret) (hX : KX D G ad A s s.heap) (hD : XD dsc nr nw nu) (hP : PIC D clsA G dsc ad σ H) (hS : va_S A s.heap H locs) (hA : ∀ q, PA dsc ad s.heap.size q → A q) (hM : CtG l D G dsc ad yJ2_elementData (ws_ yJ2_elementData cJ2_elementData 2 (Option.some (Jvm.ClassFile.FieldType.object "java/lang/Object"))) rm [.ref (ad 1260), .int x1] σ (some (va_rf (drf ad 10000 r))) σ1) (hz : rm.cells = 0 ∧ rm.slots = 0) (hR : rm.frames + 1 ≤ R.frames ∧ 8 + (2 + 11) + rm.locals ≤ R.locals) (hcs : cells ≤ R.cells ∧ slots ≤ R.slots) (hsz : ls.size = nL) (hW : (rest.map fun v => v.category).sum ≤ 8) (hdg : decode cc pc = .ok (.invokevirtual 123, 3)) (kk : ∀ (H1 : Heap) (locs1 : List Loc), PIC D clsA G dsc ad σ1 H1 → va_S A s.heap H1 locs1 → W p l e R s m args below meth c0 H1 locs1 cells slots Q (F0 m (pc + 3) ls (va_rf (drf ad 10000 r) :: rest))) : W p l e R s m args below meth c0 H locs cells slots Q (F0 m pc ls (.int x1 :: .ref (ad 1260) :: rest)) :=
  p_gV (As := [.int x1]) (rest := rest) E.1 hX hP hS hA hM (cwV 1 E.1.2.2.2.2 (lw_V q1018 q1019 q1020 q129 q1021) rfl hz.1 hz.2 (by decide +kernel) hR) (hD.1 _ _ dX_1260) rfl rfl rfl hsz rfl hW hdg hcs kk
/-! J2_get_ru (I)Ljava/lang/Object; -/
abbrev rmJ2_get_ru : Room := { frames := 2, cells := 0, slots := 0, locals := 43 }
set_option maxHeartbeats 4000000 in
theorem wkJ2_get_ru {x1 : Int32} {r_ : Int32} (E : EN p s m args meth c0 RJ2 cJ2_get 2 (Option.some (Jvm.ClassFile.FieldType.object "java/lang/Object"))) (hX : KX D G ad A s s.heap) (hD : XD dsc nr nw nu) (hA : ∀ q, PA dsc ad s.heap.size q → A q) (hf : xo_J2_get_ru (σ.1 1262) (σ.2.2.1 1265) x1 = some r_) (hQ : Q = MQ below (va_G1 (some (va_rf (drf ad 10000 r_))) (fun t => PIC D clsA G dsc ad σ t.heap) A) args s 0 0 A) (hP : PIC D clsA G dsc ad σ H) (hS : va_S A s.heap H locs) (hl : lv_has ls 2 [(0, .ref (ad 1260)), (1, .int x1)]) : W p l e rmJ2_get_ru s m args below meth c0 H locs 0 0 Q (F0 m 0 ls []) := by
  obtain ⟨⟨hx, hb, hml, hown, hts⟩, hr, hlk⟩ := id E
  unfold xo_J2_get_ru at hf
  refine lv_iload_n hx hb dJ2_get_0 rfl (lv_at hl 1 rfl) ?_
  refine lv_aload_n hx hb dJ2_get_1 rfl (lv_at hl 0 rfl) ?_
  refine gx_J2_48_1260 (v := (σ.1 1262)) E hX hD hP rfl dJ2_get_2 ?_
  obtain ⟨v1, u2, hf⟩ := bdP hf
  refine cx_J2_118_J15_checkIndex E hX hD hP hS hA (kxJ15_checkIndex l D G hD u2) ⟨rfl, rfl⟩ ⟨Nat.le_of_ble_eq_true rfl, Nat.le_of_ble_eq_true rfl⟩ ⟨Nat.zero_le _, Nat.zero_le _⟩ hl.1 (Nat.le_of_ble_eq_true rfl) dJ2_get_5 (fun H locs hP hS => ?_)
  refine lv_pop hx hb dJ2_get_8 rfl ?_
  refine lv_aload_n hx hb dJ2_get_9 rfl (lv_at hl 0 rfl) ?_
  refine lv_iload_n hx hb dJ2_get_10 rfl (lv_at hl 1 rfl) ?_
  obtain ⟨v3, u4, hf⟩ := bdP hf
  refine cx_J2_123_J2_elementData_ru E hX hD hP hS hA (kxJ2_elementData_ru l D G hD rfl u4) ⟨rfl, rfl⟩ ⟨Nat.le_of_ble_eq_true rfl, Nat.le_of_ble_eq_true rfl⟩ ⟨Nat.zero_le _, Nat.zero_le _⟩ hl.1 (Nat.le_of_ble_eq_true rfl) dJ2_get_11 (fun H locs hP hS => ?_)
  cases hf
  rw [hQ]; exact g_aret hx hb hr hlk hP hS dJ2_get_14
theorem kxJ2_get_ru (l : Launch) (D : va_G) (G : Nat → ClassId) {dsc : Nat → Option Dsc} {ad : Nat → Nat} {σ : Sto} {nr nw nu : Nat} (hD : XD dsc nr nw nu) {x1 : Int32} {r_ : Int32} {z_ru_size : Int32} (e_zI1262 : σ.1 1262 = z_ru_size) {a_ru_data : Nat → Int32} (e_aI1265 : σ.2.2.1 1265 = a_ru_data) (hf : xo_J2_get_ru z_ru_size a_ru_data x1 = some r_) : CtG l D G dsc ad yJ2_get (ws_ yJ2_get cJ2_get 2 (Option.some (Jvm.ClassFile.FieldType.object "java/lang/Object"))) rmJ2_get_ru [.ref (ad 1260), .int x1] σ (some (va_rf (drf ad 10000 r_))) σ := by
  subst e_zI1262
  subst e_aI1265
  exact p_ctG (by decide +kernel) (Nat.le_of_ble_eq_true rfl) (fun p e s m below meth c0 ls A E hP hX hA hS hl => wkJ2_get_ru E hX hD hA hf rfl hP hS hl)
theorem gx_X15_3_1496 (E : EN p s m args meth c0 RX15 cc nL ret) (hX : KX D G ad A s s.heap) (hD : XD dsc nr nw nu) (hP : PIC D clsA G dsc ad σ H) (hdg : decode cc pc = .ok (.getfield 3, 3)) (kk : W p l e R s m args below meth c0 H locs cells slots Q (F0 m (pc + 3) ls (.ref (ad 1000) :: rest))) : W p l e R s m args below meth c0 H locs cells slots Q (F0 m pc ls (.ref (ad 1496) :: rest)) :=
  p_get E.1.1 E.1.2.1 E.1.2.2.2.2 in_X15 E.1.2.2.2.1 hX.1 hP (hD.1 _ _ dX_1496) rfl 1 (by decide) (E.1.2.2.2.2 _ q496) (fun _ h => h) rfl rfl hdg kk
theorem gx_X15_15_1000 (E : EN p s m args meth c0 RX15 cc nL ret) (hX : KX D G ad A s s.heap) (hD : XD dsc nr nw nu) (hP : PIC D clsA G dsc ad σ H) (hdg : decode cc pc = .ok (.getfield 15, 3)) (kk : W p l e R s m args below meth c0 H locs cells slots Q (F0 m (pc + 3) ls (.ref (ad 1260) :: rest))) : W p l e R s m args below meth c0 H locs cells slots Q (F0 m pc ls (.ref (ad 1000) :: rest)) :=
  p_getN E.1.1 E.1.2.1 E.1.2.2.2.2 in_X1 E.1.2.2.2.1 hX.1 hP (hD.1 _ _ dX_1000) rfl 16 (by decide) (hX.2.1.1 _ q527 rfl) (fun _ h => h) rfl rfl hdg kk
theorem cx_X15_19_J2_size_ru {rm : Room} {σ1 : Sto} {r : Int32} (E : EN p s m args meth c0 RX15 cc nL ret) (hX : KX D G ad A s s.heap) (hD : XD dsc nr nw nu) (hP : PIC D clsA G dsc ad σ H) (hS : va_S A s.heap H locs) (hA : ∀ q, PA dsc ad s.heap.size q → A q) (hM : CtG l D G dsc ad yJ2_size (ws_ yJ2_size cJ2_size 1 (Option.some Jvm.ClassFile.FieldType.int)) rm [.ref (ad 1260)] σ (some (.int r)) σ1) (hz : rm.cells = 0 ∧ rm.slots = 0) (hR : rm.frames + 1 ≤ R.frames ∧ 8 + (1 + 11) + rm.locals ≤ R.locals) (hcs : cells ≤ R.cells ∧ slots ≤ R.slots) (hsz : ls.size = nL) (hW : (rest.map fun v => v.category).sum ≤ 8) (hdg : decode cc pc = .ok (.invokevirtual 19, 3)) (kk : ∀ (H1 : Heap) (locs1 : List Loc), PIC D clsA G dsc ad σ1 H1 → va_S A s.heap H1 locs1 → W p l e R s m args below meth c0 H1 locs1 cells slots Q (F0 m (pc + 3) ls (.int r :: rest))) : W p l e R s m args below meth c0 H locs cells slots Q (F0 m pc ls (.ref (ad 1260) :: rest)) :=
  p_gV (As := []) (rest := rest) E.1 hX hP hS hA hM (cwV 0 E.1.2.2.2.2 (lw_V q1294 q780 q781 q129 q782) rfl hz.1 hz.2 (by decide +kernel) hR) (hD.1 _ _ dX_1260) rfl rfl rfl hsz rfl hW hdg hcs kk
theorem gx_X15_25_1000 (E : EN p s m args meth c0 RX15 cc nL ret) (hX : KX D G ad A s s.heap) (hD : XD dsc nr nw nu) (hP : PIC D clsA G dsc ad σ H) (hdg : decode cc pc = .ok (.getfield 25, 3)) (kk : W p l e R s m args below meth c0 H locs cells slots Q (F0 m (pc + 3) ls (.ref (ad 2000) :: rest))) : W p l e R s m args below meth c0 H locs cells slots Q (F0 m pc ls (.ref (ad 1000) :: rest)) :=
  p_getN E.1.1 E.1.2.1 E.1.2.2.2.2 in_X1 E.1.2.2.2.1 hX.1 hP (hD.1 _ _ dX_1000) rfl 5 (by decide) (hX.2.1.1 _ q509 rfl) (fun _ h => h) rfl rfl hdg kk
theorem gx_X15_29_2000 {v : Int32} (E : EN p s m args meth c0 RX15 cc nL ret) (hX : KX D G ad A s s.heap) (hD : XD dsc nr nw nu) (hP : PIC D clsA G dsc ad σ H) (hv : σ.1 2013 = v) (hdg : decode cc pc = .ok (.getfield 29, 3)) (kk : W p l e R s m args below meth c0 H locs cells slots Q (F0 m (pc + 3) ls (.int v :: rest))) : W p l e R s m args below meth c0 H locs cells slots Q (F0 m pc ls (.ref (ad 2000) :: rest)) :=
  p_getN E.1.1 E.1.2.1 E.1.2.2.2.2 in_X3 E.1.2.2.2.1 hX.1 hP (hD.1 _ _ dX_2000) rfl 13 (by decide) (hX.2.1.1 _ q281 rfl) (fun _ h => h) rfl (congrArg Value.int hv) hdg kk
theorem cx_X15_35_J2_get_ru {rm : Room} {σ1 : Sto} {x1 : Int32} {r : Int32} (E : EN p s m args meth c0 RX15 cc nL ret) (hX : KX D G ad A s s.heap) (hD : XD dsc nr nw nu) (hP : PIC D clsA G dsc ad σ H) (hS : va_S A s.heap H locs) (hA : ∀ q, PA dsc ad s.heap.size q → A q) (hM : CtG l D G dsc ad yJ2_get (ws_ yJ2_get cJ2_get 2 (Option.some (Jvm.ClassFile.FieldType.object "java/lang/Object"))) rm [.ref (ad 1260), .int x1] σ (some (va_rf (drf ad 10000 r))) σ1) (hz : rm.cells = 0 ∧ rm.slots = 0) (hR : rm.frames + 1 ≤ R.frames ∧ 8 + (2 + 11) + rm.locals ≤ R.locals) (hcs : cells ≤ R.cells ∧ slots ≤ R.slots) (hsz : ls.size = nL) (hW : (rest.map fun v => v.category).sum ≤ 8) (hdg : decode cc pc = .ok (.invokevirtual 35, 3)) (kk : ∀ (H1 : Heap) (locs1 : List Loc), PIC D clsA G dsc ad σ1 H1 → va_S A s.heap H1 locs1 → W p l e R s m args below meth c0 H1 locs1 cells slots Q (F0 m (pc + 3) ls (va_rf (drf ad 10000 r) :: rest))) : W p l e R s m args below meth c0 H locs cells slots Q (F0 m pc ls (.int x1 :: .ref (ad 1260) :: rest)) :=
  p_gV (As := [.int x1]) (rest := rest) E.1 hX hP hS hA hM (cwV 1 E.1.2.2.2.2 (lw_V q1295 q1011 q1012 q129 q1013) rfl hz.1 hz.2 (by decide +kernel) hR) (hD.1 _ _ dX_1260) rfl rfl rfl hsz rfl hW hdg hcs kk
theorem gp_X15_41_U {v h : Int32} {f : Nat → Int32} (E : EN p s m args meth c0 RX15 cc nL ret) (hX : KX D G ad A s s.heap) (hD : XD dsc nr nw nu) (hP : PIC D clsA G dsc ad σ H) (hf : (fun k => σ.1 (10000 + 16 * k + 0)) = f) (hv : rdI f nu v = some h) (hdg : decode cc pc = .ok (.getfield 41, 3)) (kk : W p l e R s m args below meth c0 H locs cells slots Q (F0 m (pc + 3) ls (.int h :: rest))) : W p l e R s m args below meth c0 H locs cells slots Q (F0 m pc ls (va_rf (drf ad 10000 v) :: rest)) := by
  subst hf
  obtain ⟨h0, h1, h2⟩ := pool_ok hv
  exact p_nn h0 (p_getN E.1.1 E.1.2.1 E.1.2.2.2.2 in_X20 E.1.2.2.2.1 hX.1 hP (hD.2.2.2.1 _ h1) rfl 0 (by decide) (hX.2.1.1 _ q1416 rfl) (fun _ h => h) rfl (congrArg Value.int h2) hdg kk)
theorem gp_X15_44_U {v h : Int32} {f : Nat → Int32} (E : EN p s m args meth c0 RX15 cc nL ret) (hX : KX D G ad A s s.heap) (hD : XD dsc nr nw nu) (hP : PIC D clsA G dsc ad σ H) (hf : (fun k => σ.1 (10000 + 16 * k + 1)) = f) (hv : rdI f nu v = some h) (hdg : decode cc pc = .ok (.getfield 44, 3)) (kk : W p l e R s m args below meth c0 H locs cells slots Q (F0 m (pc + 3) ls (.int h :: rest))) : W p l e R s m args below meth c0 H locs cells slots Q (F0 m pc ls (va_rf (drf ad 10000 v) :: rest)) := by
  subst hf
  obtain ⟨h0, h1, h2⟩ := pool_ok hv
  exact p_nn h0 (p_getN E.1.1 E.1.2.1 E.1.2.2.2.2 in_X20 E.1.2.2.2.1 hX.1 hP (hD.2.2.2.1 _ h1) rfl 1 (by decide) (hX.2.1.1 _ q1418 rfl) (fun _ h => h) rfl (congrArg Value.int h2) hdg kk)
theorem gp_X15_54_U {v h : Int32} {f : Nat → Int32} (E : EN p s m args meth c0 RX15 cc nL ret) (hX : KX D G ad A s s.heap) (hD : XD dsc nr nw nu) (hP : PIC D clsA G dsc ad σ H) (hf : (fun k => σ.1 (10000 + 16 * k + 3)) = f) (hv : rdI f nu v = some h) (hdg : decode cc pc = .ok (.getfield 54, 3)) (kk : W p l e R s m args below meth c0 H locs cells slots Q (F0 m (pc + 3) ls (.int h :: rest))) : W p l e R s m args below meth c0 H locs cells slots Q (F0 m pc ls (va_rf (drf ad 10000 v) :: rest)) := by
  subst hf
  obtain ⟨h0, h1, h2⟩ := pool_ok hv
  exact p_nn h0 (p_getN E.1.1 E.1.2.1 E.1.2.2.2.2 in_X20 E.1.2.2.2.1 hX.1 hP (hD.2.2.2.1 _ h1) rfl 3 (by decide) (hX.2.1.1 _ q1422 rfl) (fun _ h => h) rfl (congrArg Value.int h2) hdg kk)
theorem cx_X15_55_X3_cost {rm : Room} {σ1 : Sto} {x1 : Int32} {x2 : Int32} {x3 : Int32} {r : Int32} (E : EN p s m args meth c0 RX15 cc nL ret) (hX : KX D G ad A s s.heap) (hD : XD dsc nr nw nu) (hP : PIC D clsA G dsc ad σ H) (hS : va_S A s.heap H locs) (hA : ∀ q, PA dsc ad s.heap.size q → A q) (hM : CtG l D G dsc ad yX3_cost (ws_ yX3_cost cX3_cost 5 (Option.some Jvm.ClassFile.FieldType.int)) rm [.ref (ad 2000), .int x1, .int x2, .int x3] σ (some (.int r)) σ1) (hz : rm.cells = 0 ∧ rm.slots = 0) (hR : rm.frames + 1 ≤ R.frames ∧ 8 + (5 + 11) + rm.locals ≤ R.locals) (hcs : cells ≤ R.cells ∧ slots ≤ R.slots) (hsz : ls.size = nL) (hW : (rest.map fun v => v.category).sum ≤ 8) (hdg : decode cc pc = .ok (.invokevirtual 55, 3)) (kk : ∀ (H1 : Heap) (locs1 : List Loc), PIC D clsA G dsc ad σ1 H1 → va_S A s.heap H1 locs1 → W p l e R s m args below meth c0 H1 locs1 cells slots Q (F0 m (pc + 3) ls (.int r :: rest))) : W p l e R s m args below meth c0 H locs cells slots Q (F0 m pc ls (.int x3 :: .int x2 :: .int x1 :: .ref (ad 2000) :: rest)) :=
  p_gV (As := [.int x1, .int x2, .int x3]) (rest := rest) E.1 hX hP hS hA hM (cwV 3 E.1.2.2.2.2 (lw_V q1298 q1105 q1106 q126 q1107) rfl hz.1 hz.2 (by decide +kernel) hR) (hD.1 _ _ dX_2000) rfl rfl rfl hsz rfl hW hdg hcs kk
theorem cx_X15_47_X1_digit {rm : Room} {σ1 : Sto} {x0 : Int32} {x1 : Int32} {r : Int32} (E : EN p s m args meth c0 RX15 cc nL ret) (hX : KX D G ad A s s.heap) (hD : XD dsc nr nw nu) (hP : PIC D clsA G dsc ad σ H) (hS : va_S A s.heap H locs) (hA : ∀ q, PA dsc ad s.heap.size q → A q) (hM : CtG l D G dsc ad yX1_digit (ws_ yX1_digit cX1_digit 2 (Option.some Jvm.ClassFile.FieldType.int)) rm [.int x0, .int x1] σ (some (.int r)) σ1) (hz : rm.cells = 0 ∧ rm.slots = 0) (hR : rm.frames + 1 ≤ R.frames ∧ 8 + (2 + 11) + rm.locals ≤ R.locals) (hcs : cells ≤ R.cells ∧ slots ≤ R.slots) (hsz : ls.size = nL) (hW : (rest.map fun v => v.category).sum ≤ 8) (hdg : decode cc pc = .ok (.invokestatic 47, 3)) (kk : ∀ (H1 : Heap) (locs1 : List Loc), PIC D clsA G dsc ad σ1 H1 → va_S A s.heap H1 locs1 → W p l e R s m args below meth c0 H1 locs1 cells slots Q (F0 m (pc + 3) ls (.int r :: rest))) : W p l e R s m args below meth c0 H locs cells slots Q (F0 m pc ls (.int x1 :: .int x0 :: rest)) :=
  p_gSN (As := [.int x0, .int x1]) (rest := rest) E.1 hX hP hS hA hM ⟨va_cnB 2 E.1.2.2.2.2 (lw_meth q1038) rfl hz.1 hz.2 (hX.2.1.1 _ q1297 rfl) (E.1.2.2.2.2 _ q124) (by decide +kernel) hR, (E.1.2.2.2.2 _ q1037), trivial⟩ rfl hsz rfl hW hdg hcs kk
theorem gp_X15_51_U {v h : Int32} {f : Nat → Int32} (E : EN p s m args meth c0 RX15 cc nL ret) (hX : KX D G ad A s s.heap) (hD : XD dsc nr nw nu) (hP : PIC D clsA G dsc ad σ H) (hf : (fun k => σ.1 (10000 + 16 * k + 2)) = f) (hv : rdI f nu v = some h) (hdg : decode cc pc = .ok (.getfield 51, 3)) (kk : W p l e R s m args below meth c0 H locs cells slots Q (F0 m (pc + 3) ls (.int h :: rest))) : W p l e R s m args below meth c0 H locs cells slots Q (F0 m pc ls (va_rf (drf ad 10000 v) :: rest)) := by
  subst hf
  obtain ⟨h0, h1, h2⟩ := pool_ok hv
  exact p_nn h0 (p_getN E.1.1 E.1.2.1 E.1.2.2.2.2 in_X20 E.1.2.2.2.1 hX.1 hP (hD.2.2.2.1 _ h1) rfl 2 (by decide) (hX.2.1.1 _ q1420 rfl) (fun _ h => h) rfl (congrArg Value.int h2) hdg kk)
/-! X15_next_p6 (II)I -/
abbrev rmX15_next_p6 : Room := { frames := 3, cells := 0, slots := 0, locals := 64 }
set_option maxHeartbeats 4000000 in
theorem wkX15_next_p6 {x1 : Int32} {x2 : Int32} {r_ : Int32} (E : EN p s m args meth c0 RX15 cX15_next 5 (Option.some Jvm.ClassFile.FieldType.int)) (hX : KX D G ad A s s.heap) (hD : XD dsc nr nw nu) (hA : ∀ q, PA dsc ad s.heap.size q → A q) (hf : xo_X15_next_p6 (σ.1 1262) (σ.1 2013) (σ.2.2.1 1170) (σ.2.2.1 1265) nr nu (fun k => σ.1 (6000 + 16 * k + 2)) (fun k => σ.1 (6000 + 16 * k + 5)) (fun k => σ.1 (6000 + 16 * k + 6)) (fun k => σ.1 (10000 + 16 * k + 0)) (fun k => σ.1 (10000 + 16 * k + 1)) (fun k => σ.1 (10000 + 16 * k + 2)) (fun k => σ.1 (10000 + 16 * k + 3)) (fun k => σ.2.2.1 (4000 + 16 * k)) x1 x2 = some r_) (hQ : Q = MQ below (va_G1 (some (.int r_)) (fun t => PIC D clsA G dsc ad σ t.heap) A) args s 0 0 A) (hP : PIC D clsA G dsc ad σ H) (hS : va_S A s.heap H locs) (hl : lv_has ls 5 [(0, .ref (ad 1496)), (1, .int x1), (2, .int x2)]) : W p l e rmX15_next_p6 s m args below meth c0 H locs 0 0 Q (F0 m 0 ls []) := by
  obtain ⟨⟨hx, hb, hml, hown, hts⟩, hr, hlk⟩ := id E
  unfold xo_X15_next_p6 at hf
  refine lv_iconst hx hb dX15_next_0 ic_0 ?_
  refine lv_istore_n (lv' := [(3, .int 0), (0, .ref (ad 1496)), (1, .int x1), (2, .int x2)]) hx hb dX15_next_1 rfl hl (by decide) rfl (fun ls hl => ?_)
  have LP2 : ∀ (st2 : Int32) (ex2 : (Int32) ⊕ (Unit)), loop (xo_X15_next_p6_L2 (σ.1 1262) (σ.1 2013) (σ.2.2.1 1170) (σ.2.2.1 1265) nr nu (fun k => σ.1 (6000 + 16 * k + 2)) (fun k => σ.1 (6000 + 16 * k + 5)) (fun k => σ.1 (6000 + 16 * k + 6)) (fun k => σ.1 (10000 + 16 * k + 0)) (fun k => σ.1 (10000 + 16 * k + 1)) (fun k => σ.1 (10000 + 16 * k + 2)) (fun k => σ.1 (10000 + 16 * k + 3)) (fun k => σ.2.2.1 (4000 + 16 * k)) x1 x2) st2 = some ex2 → ∀ (H : Heap) (locs : List Loc), PIC D clsA G dsc ad σ H → va_S A s.heap H locs → ∀ (ls : Array Slot), lv_has ls 5 [(0, .ref (ad 1496)), (1, .int x1), (2, .int x2), (3, .int st2)] → (∀ (y23 : Int32), ex2 = (.inl y23) → ∀ (H : Heap) (locs : List Loc), PIC D clsA G dsc ad σ H → va_S A s.heap H locs → ∀ (ls : Array Slot), lv_has ls 5 [(4, va_rf (drf ad 10000 y23))] → W p l e rmX15_next_p6 s m args below meth c0 H locs 0 0 Q (F0 m 103 ls [])) → (ex2 = (.inr ()) → ∀ (H : Heap) (locs : List Loc), PIC D clsA G dsc ad σ H → va_S A s.heap H locs → ∀ (ls : Array Slot), lv_has ls 5 [] → W p l e rmX15_next_p6 s m args below meth c0 H locs 0 0 Q (F0 m 115 ls [])) → W p l e rmX15_next_p6 s m args below meth c0 H locs 0 0 Q (F0 m 2 ls []) := by
    refine loop_P (fun st2 ex2 o2 hf ih2 hx2 => ?_)
    obtain ⟨y1, rfl⟩ : ∃ z, z = st2 := ⟨_, rfl⟩
    intro H locs (hP : PIC D clsA G dsc ad σ H) hS ls (hl : lv_has ls 5 [(0, .ref (ad 1496)), (1, .int x1), (2, .int x2), (3, .int y1)]) KE2_0 KE2_1
    dsimp only [xo_X15_next_p6_L2] at hf
    refine lv_iload_n hx hb dX15_next_2 rfl (lv_at hl 3 rfl) ?_
    refine lv_aload_n hx hb dX15_next_3 rfl (lv_at hl 0 rfl) ?_
    refine gx_X15_3_1496 E hX hD hP dX15_next_4 ?_
    refine gx_X15_15_1000 E hX hD hP dX15_next_7 ?_
    obtain ⟨v2, u3, hf⟩ := bdP hf
    refine cx_X15_19_J2_size_ru E hX hD hP hS hA (kxJ2_size_ru l D G hD rfl u3) ⟨rfl, rfl⟩ ⟨Nat.le_of_ble_eq_true rfl, Nat.le_of_ble_eq_true rfl⟩ ⟨Nat.zero_le _, Nat.zero_le _⟩ hl.1 (Nat.le_of_ble_eq_true rfl) dX15_next_10 (fun H locs hP hS => ?_)
    refine lv_icmp_ge (tgt := 115) hx hb dX15_next_13 (by decide) (fun c4 => ?_) (fun c4 => ?_)
    · have hf := ifT c4 hf
      exact KE2_1  (hx2 _ (Option.some.inj hf).symm).symm H locs hP hS ls (lv_sub hl [] rfl)
    · have hf := ifF c4 hf
      refine lv_iload_n hx hb dX15_next_16 rfl (lv_at hl 1 rfl) ?_
      refine lv_aload_n hx hb dX15_next_17 rfl (lv_at hl 0 rfl) ?_
      refine gx_X15_3_1496 E hX hD hP dX15_next_18 ?_
      refine gx_X15_25_1000 E hX hD hP dX15_next_21 ?_
      refine gx_X15_29_2000 (v := (σ.1 2013)) E hX hD hP rfl dX15_next_24 ?_
      refine lv_icmp_eq (tgt := 115) hx hb dX15_next_27 (by decide) (fun c5 => ?_) (fun c5 => ?_)
      · have hf := ifT c5 hf
        exact KE2_1  (hx2 _ (Option.some.inj hf).symm).symm H locs hP hS ls (lv_sub hl [] rfl)
      · have hf := ifF c5 hf
        refine lv_aload_n hx hb dX15_next_30 rfl (lv_at hl 0 rfl) ?_
        refine gx_X15_3_1496 E hX hD hP dX15_next_31 ?_
        refine gx_X15_15_1000 E hX hD hP dX15_next_34 ?_
        refine lv_iload_n hx hb dX15_next_37 rfl (lv_at hl 3 rfl) ?_
        obtain ⟨v6, u7, hf⟩ := bdP hf
        refine cx_X15_35_J2_get_ru E hX hD hP hS hA (kxJ2_get_ru l D G hD rfl rfl u7) ⟨rfl, rfl⟩ ⟨Nat.le_of_ble_eq_true rfl, Nat.le_of_ble_eq_true rfl⟩ ⟨Nat.zero_le _, Nat.zero_le _⟩ hl.1 (Nat.le_of_ble_eq_true rfl) dX15_next_38 (fun H locs hP hS => ?_)
        obtain ⟨v8, hv8, hf⟩ := bdP hf
        refine p_castP (ci := 17) (q := (RX20, TX20, 4)) hx hb hX.1 hP hown (hts _ q1296) hv8 hD.2.2.2.1 rfl dX15_next_41 ?_
        refine r_astore (lv' := [(4, va_rf (drf ad 10000 v8)), (0, .ref (ad 1496)), (1, .int x1), (2, .int x2), (3, .int y1)]) hx hb dX15_next_44 hl (by decide) rfl (fun ls hl => ?_)
        refine r_aload hx hb dX15_next_46 (lv_at hl 0 rfl) ?_
        obtain ⟨v9, hv9, hf⟩ := bdP hf
        refine gp_X15_41_U E hX hD hP rfl hv9 dX15_next_48 ?_
        refine lv_iload_n hx hb dX15_next_51 rfl (lv_at hl 2 rfl) ?_
        have J109 : xo_X15_next_p6_J109 y1 = some o2 → ∀ (H : Heap) (locs : List Loc), PIC D clsA G dsc ad σ H → va_S A s.heap H locs → ∀ (ls : Array Slot), lv_has ls 5 [(0, .ref (ad 1496)), (1, .int x1), (2, .int x2), (3, .int y1)] → W p l e rmX15_next_p6 s m args below meth c0 H locs 0 0 Q (F0 m 109 ls []) := by
          intro  hf H locs hP hS ls hl
          unfold xo_X15_next_p6_J109 at hf
          obtain ⟨v10, hv10, hf⟩ := bdP hf
          refine lv_iinc (v := v10) (lv' := [(3, .int v10), (0, .ref (ad 1496)), (1, .int x1), (2, .int x2)]) hx hb dX15_next_109 hl (k := 3) rfl (Option.some.inj hv10) (by decide) rfl (fun ls hl => ?_)
          refine lv_goto (tgt := 2) hx hb dX15_next_112 (by decide) ?_
          exact ih2 _ (Option.some.inj hf).symm H locs hP hS ls (lv_sub hl [1, 2, 3, 0] rfl) KE2_0 KE2_1
        refine lv_icmp_ne (tgt := 109) hx hb dX15_next_52 (by decide) (fun c11 => ?_) (fun c11 => ?_)
        · have hf := ifF c11 hf
          exact J109  hf H locs hP hS ls (lv_sub hl [1, 2, 3, 4] rfl)
        · have hf := ifT c11 hf
          refine r_aload hx hb dX15_next_55 (lv_at hl 0 rfl) ?_
          obtain ⟨v12, hv12, hf⟩ := bdP hf
          refine gp_X15_44_U E hX hD hP rfl hv12 dX15_next_57 ?_
          refine lv_iconst hx hb dX15_next_60 ic_m1 ?_
          have J81 : xo_X15_next_p6_J81 (σ.2.2.1 1170) nr nu (fun k => σ.1 (6000 + 16 * k + 2)) (fun k => σ.1 (6000 + 16 * k + 5)) (fun k => σ.1 (6000 + 16 * k + 6)) (fun k => σ.1 (10000 + 16 * k + 3)) (fun k => σ.2.2.1 (4000 + 16 * k)) x1 y1 x2 v8 = some o2 → ∀ (H : Heap) (locs : List Loc), PIC D clsA G dsc ad σ H → va_S A s.heap H locs → ∀ (ls : Array Slot), lv_has ls 5 [(0, .ref (ad 1496)), (1, .int x1), (2, .int x2), (3, .int y1), (4, va_rf (drf ad 10000 v8))] → W p l e rmX15_next_p6 s m args below meth c0 H locs 0 0 Q (F0 m 81 ls []) := by
            intro  hf H locs hP hS ls hl
            unfold xo_X15_next_p6_J81 at hf
            refine lv_aload_n hx hb dX15_next_81 rfl (lv_at hl 0 rfl) ?_
            refine gx_X15_3_1496 E hX hD hP dX15_next_82 ?_
            refine gx_X15_25_1000 E hX hD hP dX15_next_85 ?_
            refine lv_iload_n hx hb dX15_next_88 rfl (lv_at hl 1 rfl) ?_
            refine r_aload hx hb dX15_next_89 (lv_at hl 4 rfl) ?_
            obtain ⟨v13, hv13, hf⟩ := bdP hf
            refine gp_X15_54_U E hX hD hP rfl hv13 dX15_next_91 ?_
            refine lv_iload_n hx hb dX15_next_94 rfl (lv_at hl 2 rfl) ?_
            obtain ⟨v14, u15, hf⟩ := bdP hf
            refine cx_X15_55_X3_cost E hX hD hP hS hA (kxX3_cost l D G hD rfl rfl rfl rfl rfl rfl u15) ⟨rfl, rfl⟩ ⟨Nat.le_of_ble_eq_true rfl, Nat.le_of_ble_eq_true rfl⟩ ⟨Nat.zero_le _, Nat.zero_le _⟩ hl.1 (Nat.le_of_ble_eq_true rfl) dX15_next_95 (fun H locs hP hS => ?_)
            refine lv_ldc hx hb hown (hts _ q1299) dX15_next_98 ?_
            refine lv_icmp_ge (tgt := 109) hx hb dX15_next_100 (by decide) (fun c16 => ?_) (fun c16 => ?_)
            · have hf := ifT c16 hf
              exact J109  hf H locs hP hS ls (lv_sub hl [0, 1, 2, 3] rfl)
            · have hf := ifF c16 hf
              exact KE2_0 _ (hx2 _ (Option.some.inj hf).symm).symm H locs hP hS ls (lv_sub hl [4] rfl)
          refine lv_icmp_eq (tgt := 81) hx hb dX15_next_61 (by decide) (fun c17 => ?_) (fun c17 => ?_)
          · have hf := ifT c17 hf
            exact J81  hf H locs hP hS ls (lv_sub hl [1, 2, 3, 4, 0] rfl)
          · have hf := ifF c17 hf
            refine lv_iload_n hx hb dX15_next_64 rfl (lv_at hl 3 rfl) ?_
            refine r_aload hx hb dX15_next_65 (lv_at hl 0 rfl) ?_
            obtain ⟨v18, hv18, hf⟩ := bdP hf
            refine gp_X15_44_U E hX hD hP rfl hv18 dX15_next_67 ?_
            obtain ⟨v19, u20, hf⟩ := bdP hf
            refine cx_X15_47_X1_digit E hX hD hP hS hA (kxX1_digit l D G hD rfl u20) ⟨rfl, rfl⟩ ⟨Nat.le_of_ble_eq_true rfl, Nat.le_of_ble_eq_true rfl⟩ ⟨Nat.zero_le _, Nat.zero_le _⟩ hl.1 (Nat.le_of_ble_eq_true rfl) dX15_next_70 (fun H locs hP hS => ?_)
            refine r_aload hx hb dX15_next_73 (lv_at hl 0 rfl) ?_
            obtain ⟨v21, hv21, hf⟩ := bdP hf
            refine gp_X15_51_U E hX hD hP rfl hv21 dX15_next_75 ?_
            refine lv_icmp_ne (tgt := 109) hx hb dX15_next_78 (by decide) (fun c22 => ?_) (fun c22 => ?_)
            · have hf := ifF c22 hf
              exact J109  hf H locs hP hS ls (lv_sub hl [1, 2, 3, 4] rfl)
            · have hf := ifT c22 hf
              exact J81  hf H locs hP hS ls (lv_sub hl [1, 2, 3, 4, 0] rfl)
  obtain ⟨ex2, hlp2, hf⟩ := bdP hf
  refine LP2 0 ex2 hlp2 H locs hP hS ls (lv_sub hl [1, 2, 3, 0] rfl) ?_ ?_
  · intro y23 hex2 H locs hP hS ls hl
    subst ex2
    dsimp only [sE_l, sE_r] at hf
    refine r_aload hx hb dX15_next_103 (lv_at hl 0 rfl) ?_
    obtain ⟨v24, hv24, hf⟩ := bdP hf
    refine gp_X15_54_U E hX hD hP rfl hv24 dX15_next_105 ?_
    cases hf
    rw [hQ]; exact g_iret hx hb hr hlk hP hS dX15_next_108
  · intro  hex2 H locs hP hS ls hl
    subst ex2
    dsimp only [sE_l, sE_r] at hf
    refine lv_bipush hx hb dX15_next_115 bp_m2 ?_
    cases hf
    rw [hQ]; exact g_iret hx hb hr hlk hP hS dX15_next_117
theorem kxX15_next_p6 (l : Launch) (D : va_G) (G : Nat → ClassId) {dsc : Nat → Option Dsc} {ad : Nat → Nat} {σ : Sto} {nr nw nu : Nat} (hD : XD dsc nr nw nu) {x1 : Int32} {x2 : Int32} {r_ : Int32} {z_ru_size : Int32} (e_zI1262 : σ.1 1262 = z_ru_size) {z_L_to : Int32} (e_zI2013 : σ.1 2013 = z_L_to) {a_UNIT : Nat → Int32} (e_aI1170 : σ.2.2.1 1170 = a_UNIT) {a_ru_data : Nat → Int32} (e_aI1265 : σ.2.2.1 1265 = a_ru_data) {n_r : Nat} (e_nN0 : nr = n_r) {n_u : Nat} (e_nN2 : nu = n_u) {p_road_hours : Nat → Int32} (e_pR2 : (fun k => σ.1 (6000 + 16 * k + 2)) = p_road_hours) {p_road_wait : Nat → Int32} (e_pR5 : (fun k => σ.1 (6000 + 16 * k + 5)) = p_road_wait) {p_road_number : Nat → Int32} (e_pR6 : (fun k => σ.1 (6000 + 16 * k + 6)) = p_road_number) {p_rule_place : Nat → Int32} (e_pU0 : (fun k => σ.1 (10000 + 16 * k + 0)) = p_rule_place) {p_rule_road : Nat → Int32} (e_pU1 : (fun k => σ.1 (10000 + 16 * k + 1)) = p_rule_road) {p_rule_known : Nat → Int32} (e_pU2 : (fun k => σ.1 (10000 + 16 * k + 2)) = p_rule_known) {p_rule_to : Nat → Int32} (e_pU3 : (fun k => σ.1 (10000 + 16 * k + 3)) = p_rule_to) {g_grid : Nat → Nat → Int32} (e_gG0 : (fun k => σ.2.2.1 (4000 + 16 * k)) = g_grid) (hf : xo_X15_next_p6 z_ru_size z_L_to a_UNIT a_ru_data n_r n_u p_road_hours p_road_wait p_road_number p_rule_place p_rule_road p_rule_known p_rule_to g_grid x1 x2 = some r_) : CtG l D G dsc ad yX15_next (ws_ yX15_next cX15_next 5 (Option.some Jvm.ClassFile.FieldType.int)) rmX15_next_p6 [.ref (ad 1496), .int x1, .int x2] σ (some (.int r_)) σ := by
  subst e_zI1262
  subst e_zI2013
  subst e_aI1170
  subst e_aI1265
  subst e_nN0
  subst e_nN2
  subst e_pR2
  subst e_pR5
  subst e_pR6
  subst e_pU0
  subst e_pU1
  subst e_pU2
  subst e_pU3
  subst e_gG0
  exact p_ctG (by decide +kernel) (Nat.le_of_ble_eq_true rfl) (fun p e s m below meth c0 ls A E hP hX hA hS hl => wkX15_next_p6 E hX hD hA hf rfl hP hS hl)
theorem gx_X9_3_1496 (E : EN p s m args meth c0 RX9 cc nL ret) (hX : KX D G ad A s s.heap) (hD : XD dsc nr nw nu) (hP : PIC D clsA G dsc ad σ H) (hdg : decode cc pc = .ok (.getfield 3, 3)) (kk : W p l e R s m args below meth c0 H locs cells slots Q (F0 m (pc + 3) ls (.ref (ad 1000) :: rest))) : W p l e R s m args below meth c0 H locs cells slots Q (F0 m pc ls (.ref (ad 1496) :: rest)) :=
  p_get E.1.1 E.1.2.1 E.1.2.2.2.2 in_X15 E.1.2.2.2.1 hX.1 hP (hD.1 _ _ dX_1496) rfl 0 (by decide) (E.1.2.2.2.2 _ q435) (fun _ h => h) rfl rfl hdg kk
theorem cx_X9_32_X15_next_p6 {rm : Room} {σ1 : Sto} {x1 : Int32} {x2 : Int32} {r : Int32} (E : EN p s m args meth c0 RX9 cc nL ret) (hX : KX D G ad A s s.heap) (hD : XD dsc nr nw nu) (hP : PIC D clsA G dsc ad σ H) (hS : va_S A s.heap H locs) (hA : ∀ q, PA dsc ad s.heap.size q → A q) (hM : CtG l D G dsc ad yX15_next (ws_ yX15_next cX15_next 5 (Option.some Jvm.ClassFile.FieldType.int)) rm [.ref (ad 1496), .int x1, .int x2] σ (some (.int r)) σ1) (hz : rm.cells = 0 ∧ rm.slots = 0) (hR : rm.frames + 1 ≤ R.frames ∧ 8 + (5 + 11) + rm.locals ≤ R.locals) (hcs : cells ≤ R.cells ∧ slots ≤ R.slots) (hsz : ls.size = nL) (hW : (rest.map fun v => v.category).sum ≤ 8) (hdg : decode cc pc = .ok (.invokevirtual 32, 3)) (kk : ∀ (H1 : Heap) (locs1 : List Loc), PIC D clsA G dsc ad σ1 H1 → va_S A s.heap H1 locs1 → W p l e R s m args below meth c0 H1 locs1 cells slots Q (F0 m (pc + 3) ls (.int r :: rest))) : W p l e R s m args below meth c0 H locs cells slots Q (F0 m pc ls (.int x2 :: .int x1 :: .ref (ad 1496) :: rest)) :=
  p_gU (As := [.int x1, .int x2]) (rest := rest) E.1 hX hP hS hA hM (cw_any (owner := "ShutPasses$Plan") (x := ⟨"ShutPasses$Plan", "next", "(II)I"⟩) (y := yX15_next) (C := "ShutPasses$ByHand") (index := 32) (own := RX9) 2 E.1.2.2.2.2 (lw_meth q1293) rfl hz.1 hz.2 (E.1.2.2.2.2 _ q1288) (E.1.2.2.2.2 _ q1290) (va_Decl.abs (hX.2.1.1 _ q1289 rfl)) (E.1.2.2.2.2 _ q1291) (E.1.2.2.2.2 _ q1292) (E.1.2.2.2.2 _ q141) (by decide +kernel) hR) (hD.1 _ _ dX_1496) rfl rfl rfl hsz rfl hW hdg hcs kk
/-! X9_hours_p6 (I)I -/
abbrev rmX9_hours_p6 : Room := { frames := 4, cells := 0, slots := 0, locals := 88 }
set_option maxHeartbeats 4000000 in
theorem wkX9_hours_p6 {x1 : Int32} {r_ : Int32} (E : EN p s m args meth c0 RX9 cX9_hours 9 (Option.some Jvm.ClassFile.FieldType.int)) (hX : KX D G ad A s s.heap) (hD : XD dsc nr nw nu) (hA : ∀ q, PA dsc ad s.heap.size q → A q) (hf : xo_X9_hours_p6 (σ.1 1262) (σ.1 2012) (σ.1 2013) (σ.1 2027) (σ.1 2032) (σ.2.2.1 1170) (σ.2.2.1 1265) (σ.2.2.1 2037) (σ.2.2.1 2043) nr nw nu (fun k => σ.1 (6000 + 16 * k + 2)) (fun k => σ.1 (6000 + 16 * k + 5)) (fun k => σ.1 (6000 + 16 * k + 6)) (fun k => σ.1 (8000 + 16 * k + 1)) (fun k => σ.1 (8000 + 16 * k + 2)) (fun k => σ.1 (10000 + 16 * k + 0)) (fun k => σ.1 (10000 + 16 * k + 1)) (fun k => σ.1 (10000 + 16 * k + 2)) (fun k => σ.1 (10000 + 16 * k + 3)) (fun k => σ.2.2.1 (4000 + 16 * k)) x1 = some r_) (hQ : Q = MQ below (va_G1 (some (.int r_)) (fun t => PIC D clsA G dsc ad σ t.heap) A) args s 0 0 A) (hP : PIC D clsA G dsc ad σ H) (hS : va_S A s.heap H locs) (hl : lv_has ls 9 [(0, .ref (ad 1496)), (1, .int x1)]) : W p l e rmX9_hours_p6 s m args below meth c0 H locs 0 0 Q (F0 m 0 ls []) := by
  obtain ⟨⟨hx, hb, hml, hown, hts⟩, hr, hlk⟩ := id E
  unfold xo_X9_hours_p6 at hf
  refine lv_aload_n hx hb dX9_hours_0 rfl (lv_at hl 0 rfl) ?_
  refine gx_X9_3_1496 E hX hD hP dX9_hours_1 ?_
  refine gx_X9_15_1000 E hX hD hP dX9_hours_4 ?_
  refine gx_X9_19_2000 (v := (σ.1 2012)) E hX hD hP rfl dX9_hours_7 ?_
  refine lv_istore_n (lv' := [(2, .int (σ.1 2012)), (0, .ref (ad 1496)), (1, .int x1)]) hx hb dX9_hours_10 rfl hl (by decide) rfl (fun ls hl => ?_)
  refine lv_aload_n hx hb dX9_hours_11 rfl (lv_at hl 1 rfl) ?_
  refine gx_X9_3_1496 E hX hD hP dX9_hours_12 ?_
  refine lv_iload_n hx hb dX9_hours_15 rfl (lv_at hl 0 rfl) ?_
  refine lv_iconst hx hb dX9_hours_16 ic_0 ?_
  refine lv_iload_n hx hb dX9_hours_17 rfl (lv_at hl 2 rfl) ?_
  obtain ⟨v1, u2, hf⟩ := bdP hf
  refine cx_X9_25_X1_seeing E hX hD hP hS hA (kxX1_seeing l D G hD rfl rfl rfl u2) ⟨rfl, rfl⟩ ⟨Nat.le_of_ble_eq_true rfl, Nat.le_of_ble_eq_true rfl⟩ ⟨Nat.zero_le _, Nat.zero_le _⟩ hl.1 (Nat.le_of_ble_eq_true rfl) dX9_hours_18 (fun H locs hP hS => ?_)
  refine lv_istore_n (lv' := [(3, .int v1), (2, .int (σ.1 2012)), (0, .ref (ad 1496)), (1, .int x1)]) hx hb dX9_hours_21 rfl hl (by decide) rfl (fun ls hl => ?_)
  refine lv_iconst hx hb dX9_hours_22 ic_0 ?_
  refine lv_istore (lv' := [(4, .int 0), (3, .int v1), (2, .int (σ.1 2012)), (0, .ref (ad 1496)), (1, .int x1)]) hx hb dX9_hours_23 hl (by decide) rfl (fun ls hl => ?_)
  refine lv_iconst hx hb dX9_hours_25 ic_0 ?_
  refine lv_istore (lv' := [(5, .int 0), (4, .int 0), (3, .int v1), (2, .int (σ.1 2012)), (0, .ref (ad 1496)), (1, .int x1)]) hx hb dX9_hours_26 hl (by decide) rfl (fun ls hl => ?_)
  have LP28 : ∀ (st28 : Int32 × Int32 × Int32 × Int32) (ex28 : (Unit) ⊕ (Int32)), loop (xo_X9_hours_p6_L28 (σ.1 1262) (σ.1 2013) (σ.1 2027) (σ.1 2032) (σ.2.2.1 1170) (σ.2.2.1 1265) (σ.2.2.1 2037) (σ.2.2.1 2043) nr nw nu (fun k => σ.1 (6000 + 16 * k + 2)) (fun k => σ.1 (6000 + 16 * k + 5)) (fun k => σ.1 (6000 + 16 * k + 6)) (fun k => σ.1 (8000 + 16 * k + 1)) (fun k => σ.1 (8000 + 16 * k + 2)) (fun k => σ.1 (10000 + 16 * k + 0)) (fun k => σ.1 (10000 + 16 * k + 1)) (fun k => σ.1 (10000 + 16 * k + 2)) (fun k => σ.1 (10000 + 16 * k + 3)) (fun k => σ.2.2.1 (4000 + 16 * k)) x1) st28 = some ex28 → ∀ (H : Heap) (locs : List Loc), PIC D clsA G dsc ad σ H → va_S A s.heap H locs → ∀ (ls : Array Slot), lv_has ls 9 [(0, .ref (ad 1496)), (1, .int x1), (2, .int (st28.1)), (3, .int (st28.2.1)), (4, .int (st28.2.2.1)), (5, .int (st28.2.2.2))] → (ex28 = (.inl (())) → ∀ (H : Heap) (locs : List Loc), PIC D clsA G dsc ad σ H → va_S A s.heap H locs → ∀ (ls : Array Slot), lv_has ls 9 [] → W p l e rmX9_hours_p6 s m args below meth c0 H locs 0 0 Q (F0 m 64 ls [])) → (∀ (y32 : Int32), ex28 = (.inr y32) → ∀ (H : Heap) (locs : List Loc), PIC D clsA G dsc ad σ H → va_S A s.heap H locs → ∀ (ls : Array Slot), lv_has ls 9 [(4, .int y32)] → W p l e rmX9_hours_p6 s m args below meth c0 H locs 0 0 Q (F0 m 186 ls [])) → W p l e rmX9_hours_p6 s m args below meth c0 H locs 0 0 Q (F0 m 28 ls []) := by
    refine loop_P (fun st28 ex28 o28 hf ih28 hx28 => ?_)
    obtain ⟨y3, y4, y5, y6⟩ := st28
    intro H locs (hP : PIC D clsA G dsc ad σ H) hS ls (hl : lv_has ls 9 [(0, .ref (ad 1496)), (1, .int x1), (2, .int y3), (3, .int y4), (4, .int y5), (5, .int y6)]) KE28_0 KE28_1
    dsimp only [xo_X9_hours_p6_L28] at hf
    refine lv_iload_n hx hb dX9_hours_28 rfl (lv_at hl 2 rfl) ?_
    refine lv_aload_n hx hb dX9_hours_29 rfl (lv_at hl 0 rfl) ?_
    refine gx_X9_3_1496 E hX hD hP dX9_hours_30 ?_
    refine gx_X9_15_1000 E hX hD hP dX9_hours_33 ?_
    refine gx_X9_29_2000 (v := (σ.1 2013)) E hX hD hP rfl dX9_hours_36 ?_
    refine lv_icmp_eq (tgt := 186) hx hb dX9_hours_39 (by decide) (fun c7 => ?_) (fun c7 => ?_)
    · have hf := ifT c7 hf
      exact KE28_1 _ (hx28 _ (Option.some.inj hf).symm).symm H locs hP hS ls (lv_sub hl [4] rfl)
    · have hf := ifF c7 hf
      refine lv_aload_n hx hb dX9_hours_42 rfl (lv_at hl 0 rfl) ?_
      refine lv_iload_n hx hb dX9_hours_43 rfl (lv_at hl 2 rfl) ?_
      refine lv_iload_n hx hb dX9_hours_44 rfl (lv_at hl 3 rfl) ?_
      obtain ⟨v8, u9, hf⟩ := bdP hf
      refine cx_X9_32_X15_next_p6 E hX hD hP hS hA (kxX15_next_p6 l D G hD rfl rfl rfl rfl rfl rfl rfl rfl rfl rfl rfl rfl rfl rfl u9) ⟨rfl, rfl⟩ ⟨Nat.le_of_ble_eq_true rfl, Nat.le_of_ble_eq_true rfl⟩ ⟨Nat.zero_le _, Nat.zero_le _⟩ hl.1 (Nat.le_of_ble_eq_true rfl) dX9_hours_45 (fun H locs hP hS => ?_)
      refine lv_istore (lv' := [(6, .int v8), (0, .ref (ad 1496)), (1, .int x1), (2, .int y3), (3, .int y4), (4, .int y5), (5, .int y6)]) hx hb dX9_hours_48 hl (by decide) rfl (fun ls hl => ?_)
      refine lv_iload hx hb dX9_hours_50 (lv_at hl 0 rfl) ?_
      refine lv_bipush hx hb dX9_hours_52 bp_m2 ?_
      refine lv_icmp_eq (tgt := 64) hx hb dX9_hours_54 (by decide) (fun c10 => ?_) (fun c10 => ?_)
      · have hf := ifT c10 hf
        exact KE28_0  (hx28 _ (Option.some.inj hf).symm).symm H locs hP hS ls (lv_sub hl [] rfl)
      · have hf := ifF c10 hf
        refine lv_iload hx hb dX9_hours_57 (lv_at hl 6 rfl) ?_
        refine lv_bipush hx hb dX9_hours_59 bp_10 ?_
        refine lv_icmp_le (tgt := 67) hx hb dX9_hours_61 (by decide) (fun c11 => ?_) (fun c11 => ?_)
        · have hf := ifT c11 hf
          refine lv_iload_n hx hb dX9_hours_67 rfl (lv_at hl 4 rfl) ?_
          refine lv_istore (lv' := [(7, .int y4), (6, .int v8), (0, .ref (ad 1496)), (1, .int x1), (2, .int y3), (3, .int y4), (4, .int y5), (5, .int y6)]) hx hb dX9_hours_68 hl (by decide) rfl (fun ls hl => ?_)
          refine lv_iload hx hb dX9_hours_70 (lv_at hl 1 rfl) ?_
          refine lv_bipush hx hb dX9_hours_72 bp_100 ?_
          have J167 : ∀ (y12 : Int32) (y13 : Int32) (y14 : Int32), xo_X9_hours_p6_J167 y4 y6 y12 y13 y14 = some o28 → ∀ (H : Heap) (locs : List Loc), PIC D clsA G dsc ad σ H → va_S A s.heap H locs → ∀ (ls : Array Slot), lv_has ls 9 [(0, .ref (ad 1496)), (1, .int x1), (2, .int y12), (3, .int y13), (4, .int y14), (5, .int y6), (7, .int y4)] → W p l e rmX9_hours_p6 s m args below meth c0 H locs 0 0 Q (F0 m 167 ls []) := by
            intro y12 y13 y14 hf H locs hP hS ls hl
            unfold xo_X9_hours_p6_J167 at hf
            refine lv_iload_n hx hb dX9_hours_167 rfl (lv_at hl 3 rfl) ?_
            refine lv_iload hx hb dX9_hours_168 (lv_at hl 6 rfl) ?_
            have J181 : ∀ (k15 : Int32), xo_X9_hours_p6_J181 y12 y13 y14 k15 = some o28 → ∀ (H : Heap) (locs : List Loc), PIC D clsA G dsc ad σ H → va_S A s.heap H locs → ∀ (ls : Array Slot), lv_has ls 9 [(0, .ref (ad 1496)), (1, .int x1), (2, .int y12), (3, .int y13), (4, .int y14)] → W p l e rmX9_hours_p6 s m args below meth c0 H locs 0 0 Q (F0 m 181 ls [.int k15]) := by
              intro k15 hf H locs hP hS ls hl
              unfold xo_X9_hours_p6_J181 at hf
              refine lv_istore (lv' := [(5, .int k15), (0, .ref (ad 1496)), (1, .int x1), (2, .int y12), (3, .int y13), (4, .int y14)]) hx hb dX9_hours_181 hl (by decide) rfl (fun ls hl => ?_)
              refine lv_goto (tgt := 28) hx hb dX9_hours_183 (by decide) ?_
              exact ih28 _ (Option.some.inj hf).symm H locs hP hS ls (lv_sub hl [1, 2, 3, 4, 5, 0] rfl) KE28_0 KE28_1
            refine lv_icmp_ne (tgt := 180) hx hb dX9_hours_170 (by decide) (fun c16 => ?_) (fun c16 => ?_)
            · have hf := ifF c16 hf
              refine lv_iconst hx hb dX9_hours_180 ic_0 ?_
              exact J181 0 hf H locs hP hS ls (lv_sub hl [0, 1, 2, 3, 4] rfl)
            · have hf := ifT c16 hf
              refine lv_iload hx hb dX9_hours_173 (lv_at hl 5 rfl) ?_
              refine lv_iconst hx hb dX9_hours_175 ic_1 ?_
              refine lv_iadd hx hb dX9_hours_176 ?_
              refine lv_goto (tgt := 181) hx hb dX9_hours_177 (by decide) ?_
              exact J181 (y6 + 1) hf H locs hP hS ls (lv_sub hl [0, 1, 2, 3, 4] rfl)
          refine lv_icmp_lt (tgt := 134) hx hb dX9_hours_74 (by decide) (fun c17 => ?_) (fun c17 => ?_)
          · have hf := ifT c17 hf
            refine lv_iload hx hb dX9_hours_134 (lv_at hl 6 rfl) ?_
            refine lv_aload_n hx hb dX9_hours_136 rfl (lv_at hl 2 rfl) ?_
            refine gx_X9_3_1496 E hX hD hP dX9_hours_137 ?_
            refine gx_X9_15_1000 E hX hD hP dX9_hours_140 ?_
            refine lv_iload_n hx hb dX9_hours_143 rfl (lv_at hl 4 rfl) ?_
            refine lv_iload hx hb dX9_hours_144 (lv_at hl 1 rfl) ?_
            refine lv_iload_n hx hb dX9_hours_146 rfl (lv_at hl 5 rfl) ?_
            obtain ⟨v18, u19, hf⟩ := bdP hf
            refine cx_X9_57_X3_cost E hX hD hP hS hA (kxX3_cost l D G hD rfl rfl rfl rfl rfl rfl u19) ⟨rfl, rfl⟩ ⟨Nat.le_of_ble_eq_true rfl, Nat.le_of_ble_eq_true rfl⟩ ⟨Nat.zero_le _, Nat.zero_le _⟩ hl.1 (Nat.le_of_ble_eq_true rfl) dX9_hours_147 (fun H locs hP hS => ?_)
            refine lv_iadd hx hb dX9_hours_150 ?_
            obtain ⟨v20, hv20, hf⟩ := bdP hf
            refine nm_i (Option.some.inj hv20) ?_
            refine lv_istore (lv' := [(4, .int v20), (7, .int y4), (6, .int v8), (0, .ref (ad 1496)), (1, .int x1), (2, .int y3), (3, .int y4), (5, .int y6)]) hx hb dX9_hours_151 hl (by decide) rfl (fun ls hl => ?_)
            refine lv_iload hx hb dX9_hours_153 (lv_at hl 2 rfl) ?_
            refine lv_istore_n (lv' := [(2, .int v8), (4, .int v20), (7, .int y4), (6, .int v8), (0, .ref (ad 1496)), (1, .int x1), (3, .int y4), (5, .int y6)]) hx hb dX9_hours_155 rfl hl (by decide) rfl (fun ls hl => ?_)
            refine lv_aload_n hx hb dX9_hours_156 rfl (lv_at hl 4 rfl) ?_
            refine gx_X9_3_1496 E hX hD hP dX9_hours_157 ?_
            refine lv_iload_n hx hb dX9_hours_160 rfl (lv_at hl 0 rfl) ?_
            refine lv_iload_n hx hb dX9_hours_161 rfl (lv_at hl 6 rfl) ?_
            refine lv_iload_n hx hb dX9_hours_162 rfl (lv_at hl 5 rfl) ?_
            obtain ⟨v21, u22, hf⟩ := bdP hf
            refine cx_X9_25_X1_seeing E hX hD hP hS hA (kxX1_seeing l D G hD rfl rfl rfl u22) ⟨rfl, rfl⟩ ⟨Nat.le_of_ble_eq_true rfl, Nat.le_of_ble_eq_true rfl⟩ ⟨Nat.zero_le _, Nat.zero_le _⟩ hl.1 (Nat.le_of_ble_eq_true rfl) dX9_hours_163 (fun H locs hP hS => ?_)
            refine lv_istore_n (lv' := [(3, .int v21), (2, .int v8), (4, .int v20), (7, .int y4), (6, .int v8), (0, .ref (ad 1496)), (1, .int x1), (5, .int y6)]) hx hb dX9_hours_166 rfl hl (by decide) rfl (fun ls hl => ?_)
            exact J167 v8 v21 v20 hf H locs hP hS ls (lv_sub hl [5, 6, 1, 0, 2, 7, 3] rfl)
          · have hf := ifF c17 hf
            refine lv_aload_n hx hb dX9_hours_77 rfl (lv_at hl 2 rfl) ?_
            refine gx_X9_3_1496 E hX hD hP dX9_hours_78 ?_
            refine gx_X9_15_1000 E hX hD hP dX9_hours_81 ?_
            refine gx_X9_36_2000 E hX hD hP dX9_hours_84 ?_
            refine lv_iload hx hb dX9_hours_87 (lv_at hl 1 rfl) ?_
            refine lv_bipush hx hb dX9_hours_89 bp_100 ?_
            refine lv_isub hx hb dX9_hours_91 ?_
            obtain ⟨v23, u24, hf⟩ := bdP hf
            refine cx_X9_40_J2_get_Lw E hX hD hP hS hA (kxJ2_get_Lw l D G hD rfl rfl u24) ⟨rfl, rfl⟩ ⟨Nat.le_of_ble_eq_true rfl, Nat.le_of_ble_eq_true rfl⟩ ⟨Nat.zero_le _, Nat.zero_le _⟩ hl.1 (Nat.le_of_ble_eq_true rfl) dX9_hours_92 (fun H locs hP hS => ?_)
            obtain ⟨v25, hv25, hf⟩ := bdP hf
            refine p_castP (ci := 16) (q := (RX19, TX19, 3)) hx hb hX.1 hP hown (hts _ q1314) hv25 hD.2.2.1 rfl dX9_hours_95 ?_
            refine r_astore (lv' := [(8, va_rf (drf ad 8000 v25)), (7, .int y4), (6, .int v8), (0, .ref (ad 1496)), (1, .int x1), (2, .int y3), (3, .int y4), (4, .int y5), (5, .int y6)]) hx hb dX9_hours_98 hl (by decide) rfl (fun ls hl => ?_)
            refine lv_iload hx hb dX9_hours_100 (lv_at hl 7 rfl) ?_
            refine r_aload hx hb dX9_hours_102 (lv_at hl 0 rfl) ?_
            obtain ⟨v26, hv26, hf⟩ := bdP hf
            refine gp_X9_48_W E hX hD hP rfl hv26 dX9_hours_104 ?_
            refine lv_iadd hx hb dX9_hours_107 ?_
            obtain ⟨v27, hv27, hf⟩ := bdP hf
            refine nm_i (Option.some.inj hv27) ?_
            refine lv_istore (lv' := [(4, .int v27), (8, va_rf (drf ad 8000 v25)), (7, .int y4), (6, .int v8), (0, .ref (ad 1496)), (1, .int x1), (2, .int y3), (3, .int y4), (5, .int y6)]) hx hb dX9_hours_108 hl (by decide) rfl (fun ls hl => ?_)
            refine lv_iload_n hx hb dX9_hours_110 rfl (lv_at hl 7 rfl) ?_
            refine r_aload hx hb dX9_hours_111 (lv_at hl 1 rfl) ?_
            obtain ⟨v28, hv28, hf⟩ := bdP hf
            refine gp_X9_51_W E hX hD hP rfl hv28 dX9_hours_113 ?_
            refine lv_iconst hx hb dX9_hours_116 ic_1 ?_
            refine lv_iload_n hx hb dX9_hours_117 rfl (lv_at hl 5 rfl) ?_
            refine r_aload hx hb dX9_hours_118 (lv_at hl 1 rfl) ?_
            obtain ⟨v29, hv29, hf⟩ := bdP hf
            refine gp_X9_51_W E hX hD hP rfl hv29 dX9_hours_120 ?_
            refine lv_ishr hx hb dX9_hours_123 ?_
            refine lv_iconst hx hb dX9_hours_124 ic_1 ?_
            refine lv_iand hx hb dX9_hours_125 ?_
            refine lv_iadd hx hb dX9_hours_126 ?_
            obtain ⟨v30, u31, hf⟩ := bdP hf
            refine cx_X9_54_X1_with E hX hD hP hS hA (kxX1_with l D G hD rfl u31) ⟨rfl, rfl⟩ ⟨Nat.le_of_ble_eq_true rfl, Nat.le_of_ble_eq_true rfl⟩ ⟨Nat.zero_le _, Nat.zero_le _⟩ hl.1 (Nat.le_of_ble_eq_true rfl) dX9_hours_127 (fun H locs hP hS => ?_)
            refine lv_istore_n (lv' := [(3, .int v30), (4, .int v27), (8, va_rf (drf ad 8000 v25)), (7, .int y4), (6, .int v8), (0, .ref (ad 1496)), (1, .int x1), (2, .int y3), (5, .int y6)]) hx hb dX9_hours_130 rfl hl (by decide) rfl (fun ls hl => ?_)
            refine lv_goto (tgt := 167) hx hb dX9_hours_131 (by decide) ?_
            exact J167 y3 v30 v27 hf H locs hP hS ls (lv_sub hl [5, 6, 7, 0, 1, 8, 3] rfl)
        · have hf := ifF c11 hf
          exact KE28_0  (hx28 _ (Option.some.inj hf).symm).symm H locs hP hS ls (lv_sub hl [] rfl)
  obtain ⟨ex28, hlp28, hf⟩ := bdP hf
  refine LP28 ((σ.1 2012), v1, 0, 0) ex28 hlp28 H locs hP hS ls (lv_sub hl [4, 5, 3, 2, 1, 0] rfl) ?_ ?_
  · intro  hex28 H locs hP hS ls hl
    subst ex28
    dsimp only [sE_l, sE_r] at hf
    refine lv_bipush hx hb dX9_hours_64 bp_m2 ?_
    cases hf
    rw [hQ]; exact g_iret hx hb hr hlk hP hS dX9_hours_66
  · intro y32 hex28 H locs hP hS ls hl
    subst ex28
    dsimp only [sE_l, sE_r] at hf
    refine lv_iload hx hb dX9_hours_186 (lv_at hl 0 rfl) ?_
    cases hf
    rw [hQ]; exact g_iret hx hb hr hlk hP hS dX9_hours_188
theorem kxX9_hours_p6 (l : Launch) (D : va_G) (G : Nat → ClassId) {dsc : Nat → Option Dsc} {ad : Nat → Nat} {σ : Sto} {nr nw nu : Nat} (hD : XD dsc nr nw nu) {x1 : Int32} {r_ : Int32} {z_ru_size : Int32} (e_zI1262 : σ.1 1262 = z_ru_size) {z_L_from : Int32} (e_zI2012 : σ.1 2012 = z_L_from) {z_L_to : Int32} (e_zI2013 : σ.1 2013 = z_L_to) {z_Ld_size : Int32} (e_zI2027 : σ.1 2027 = z_Ld_size) {z_Lw_size : Int32} (e_zI2032 : σ.1 2032 = z_Lw_size) {a_UNIT : Nat → Int32} (e_aI1170 : σ.2.2.1 1170 = a_UNIT) {a_ru_data : Nat → Int32} (e_aI1265 : σ.2.2.1 1265 = a_ru_data) {a_Lw_data : Nat → Int32} (e_aI2037 : σ.2.2.1 2037 = a_Lw_data) {a_L_seen : Nat → Int32} (e_aI2043 : σ.2.2.1 2043 = a_L_seen) {n_r : Nat} (e_nN0 : nr = n_r) {n_w : Nat} (e_nN1 : nw = n_w) {n_u : Nat} (e_nN2 : nu = n_u) {p_road_hours : Nat → Int32} (e_pR2 : (fun k => σ.1 (6000 + 16 * k + 2)) = p_road_hours) {p_road_wait : Nat → Int32} (e_pR5 : (fun k => σ.1 (6000 + 16 * k + 5)) = p_road_wait) {p_road_number : Nat → Int32} (e_pR6 : (fun k => σ.1 (6000 + 16 * k + 6)) = p_road_number) {p_word_road : Nat → Int32} (e_pW1 : (fun k => σ.1 (8000 + 16 * k + 1)) = p_word_road) {p_word_hours : Nat → Int32} (e_pW2 : (fun k => σ.1 (8000 + 16 * k + 2)) = p_word_hours) {p_rule_place : Nat → Int32} (e_pU0 : (fun k => σ.1 (10000 + 16 * k + 0)) = p_rule_place) {p_rule_road : Nat → Int32} (e_pU1 : (fun k => σ.1 (10000 + 16 * k + 1)) = p_rule_road) {p_rule_known : Nat → Int32} (e_pU2 : (fun k => σ.1 (10000 + 16 * k + 2)) = p_rule_known) {p_rule_to : Nat → Int32} (e_pU3 : (fun k => σ.1 (10000 + 16 * k + 3)) = p_rule_to) {g_grid : Nat → Nat → Int32} (e_gG0 : (fun k => σ.2.2.1 (4000 + 16 * k)) = g_grid) (hf : xo_X9_hours_p6 z_ru_size z_L_from z_L_to z_Ld_size z_Lw_size a_UNIT a_ru_data a_Lw_data a_L_seen n_r n_w n_u p_road_hours p_road_wait p_road_number p_word_road p_word_hours p_rule_place p_rule_road p_rule_known p_rule_to g_grid x1 = some r_) : CtG l D G dsc ad yX9_hours (ws_ yX9_hours cX9_hours 9 (Option.some Jvm.ClassFile.FieldType.int)) rmX9_hours_p6 [.ref (ad 1496), .int x1] σ (some (.int r_)) σ := by
  subst e_zI1262
  subst e_zI2012
  subst e_zI2013
  subst e_zI2027
  subst e_zI2032
  subst e_aI1170
  subst e_aI1265
  subst e_aI2037
  subst e_aI2043
  subst e_nN0
  subst e_nN1
  subst e_nN2
  subst e_pR2
  subst e_pR5
  subst e_pR6
  subst e_pW1
  subst e_pW2
  subst e_pU0
  subst e_pU1
  subst e_pU2
  subst e_pU3
  subst e_gG0
  exact p_ctG (by decide +kernel) (Nat.le_of_ble_eq_true rfl) (fun p e s m below meth c0 ls A E hP hX hA hS hl => wkX9_hours_p6 E hX hD hA hf rfl hP hS hl)
theorem cx_X9_60_X3_worlds {rm : Room} {σ1 : Sto} {r : Int32} (E : EN p s m args meth c0 RX9 cc nL ret) (hX : KX D G ad A s s.heap) (hD : XD dsc nr nw nu) (hP : PIC D clsA G dsc ad σ H) (hS : va_S A s.heap H locs) (hA : ∀ q, PA dsc ad s.heap.size q → A q) (hM : CtG l D G dsc ad yX3_worlds (ws_ yX3_worlds cX3_worlds 1 (Option.some Jvm.ClassFile.FieldType.int)) rm [.ref (ad 2000)] σ (some (.int r)) σ1) (hz : rm.cells = 0 ∧ rm.slots = 0) (hR : rm.frames + 1 ≤ R.frames ∧ 8 + (1 + 11) + rm.locals ≤ R.locals) (hcs : cells ≤ R.cells ∧ slots ≤ R.slots) (hsz : ls.size = nL) (hW : (rest.map fun v => v.category).sum ≤ 8) (hdg : decode cc pc = .ok (.invokevirtual 60, 3)) (kk : ∀ (H1 : Heap) (locs1 : List Loc), PIC D clsA G dsc ad σ1 H1 → va_S A s.heap H1 locs1 → W p l e R s m args below meth c0 H1 locs1 cells slots Q (F0 m (pc + 3) ls (.int r :: rest))) : W p l e R s m args below meth c0 H locs cells slots Q (F0 m pc ls (.ref (ad 2000) :: rest)) :=
  p_gV (As := []) (rest := rest) E.1 hX hP hS hA hM (cwV 0 E.1.2.2.2.2 (lw_V q1274 q992 q993 q126 q994) rfl hz.1 hz.2 (by decide +kernel) hR) (hD.1 _ _ dX_2000) rfl rfl rfl hsz rfl hW hdg hcs kk
theorem gx_X9_64_1000 (E : EN p s m args meth c0 RX9 cc nL ret) (hX : KX D G ad A s s.heap) (hD : XD dsc nr nw nu) (hP : PIC D clsA G dsc ad σ H) (hdg : decode cc pc = .ok (.getfield 64, 3)) (kk : W p l e R s m args below meth c0 H locs cells slots Q (F0 m (pc + 3) ls (.ref (ad 1050) :: rest))) : W p l e R s m args below meth c0 H locs cells slots Q (F0 m pc ls (.ref (ad 1000) :: rest)) :=
  p_getN E.1.1 E.1.2.1 E.1.2.2.2.2 in_X1 E.1.2.2.2.1 hX.1 hP (hD.1 _ _ dX_1000) rfl 6 (by decide) (hX.2.1.1 _ q514 rfl) (fun _ h => h) rfl rfl hdg kk
theorem gx_X9_68_1050 (E : EN p s m args meth c0 RX9 cc nL ret) (hX : KX D G ad A s s.heap) (hD : XD dsc nr nw nu) (hP : PIC D clsA G dsc ad σ H) (hdg : decode cc pc = .ok (.getfield 68, 3)) (kk : W p l e R s m args below meth c0 H locs cells slots Q (F0 m (pc + 3) ls (.ref (ad 1140) :: rest))) : W p l e R s m args below meth c0 H locs cells slots Q (F0 m pc ls (.ref (ad 1050) :: rest)) :=
  p_getN E.1.1 E.1.2.1 E.1.2.2.2.2 in_X4 E.1.2.2.2.1 hX.1 hP (hD.1 _ _ dX_1050) rfl 0 (by decide) (hX.2.1.1 _ q325 rfl) (fun _ h => h) rfl rfl hdg kk
theorem cx_X9_74_X9_hours_p0 {rm : Room} {σ1 : Sto} {x1 : Int32} {r : Int32} (E : EN p s m args meth c0 RX9 cc nL ret) (hX : KX D G ad A s s.heap) (hD : XD dsc nr nw nu) (hP : PIC D clsA G dsc ad σ H) (hS : va_S A s.heap H locs) (hA : ∀ q, PA dsc ad s.heap.size q → A q) (hM : CtG l D G dsc ad yX9_hours (ws_ yX9_hours cX9_hours 9 (Option.some Jvm.ClassFile.FieldType.int)) rm [.ref (ad 1400), .int x1] σ (some (.int r)) σ1) (hz : rm.cells = 0 ∧ rm.slots = 0) (hR : rm.frames + 1 ≤ R.frames ∧ 8 + (9 + 11) + rm.locals ≤ R.locals) (hcs : cells ≤ R.cells ∧ slots ≤ R.slots) (hsz : ls.size = nL) (hW : (rest.map fun v => v.category).sum ≤ 8) (hdg : decode cc pc = .ok (.invokevirtual 74, 3)) (kk : ∀ (H1 : Heap) (locs1 : List Loc), PIC D clsA G dsc ad σ1 H1 → va_S A s.heap H1 locs1 → W p l e R s m args below meth c0 H1 locs1 cells slots Q (F0 m (pc + 3) ls (.int r :: rest))) : W p l e R s m args below meth c0 H locs cells slots Q (F0 m pc ls (.int x1 :: .ref (ad 1400) :: rest)) :=
  p_gU (As := [.int x1]) (rest := rest) E.1 hX hP hS hA hM (cw_any (owner := "ShutPasses$Plan") (x := ⟨"ShutPasses$Plan", "hours", "(I)I"⟩) (y := yX9_hours) (C := "ShutPasses$ByTable") (index := 74) (own := RX9) 1 E.1.2.2.2.2 (lw_meth q1283) rfl hz.1 hz.2 (E.1.2.2.2.2 _ q1275) (E.1.2.2.2.2 _ q1277) (va_Decl.of (E.1.2.2.2.2 _ q1276) (E.1.2.2.2.2 _ q1283)) (E.1.2.2.2.2 _ q1279) (E.1.2.2.2.2 _ q1276) (E.1.2.2.2.2 _ q135) (by decide +kernel) hR) (hD.1 _ _ dX_1400) rfl rfl rfl hsz rfl hW hdg hcs kk
/-! X9_mean_p0 ()J -/
abbrev rmX9_mean_p0 : Room := { frames := 48, cells := 0, slots := 0, locals := 1314 }
set_option maxHeartbeats 4000000 in
theorem wkX9_mean_p0 {r_ : Int64} (E : EN p s m args meth c0 RX9 cX9_mean 5 (Option.some Jvm.ClassFile.FieldType.long)) (hX : KX D G ad A s s.heap) (hD : XD dsc nr nw nu) (hA : ∀ q, PA dsc ad s.heap.size q → A q) (hf : xo_X9_mean_p0 (σ.1 1062) (σ.1 2008) (σ.1 2012) (σ.1 2013) (σ.1 2027) (σ.1 2032) (σ.2.1 1061) (σ.2.2.1 1170) (σ.2.2.1 2037) (σ.2.2.1 2043) (σ.2.2.2.1 1140) (σ.2.2.2.1 1141) (σ.2.2.2.1 1150) nr nw (fun k => σ.1 (6000 + 16 * k + 2)) (fun k => σ.1 (6000 + 16 * k + 5)) (fun k => σ.1 (6000 + 16 * k + 6)) (fun k => σ.1 (8000 + 16 * k + 0)) (fun k => σ.1 (8000 + 16 * k + 1)) (fun k => σ.1 (8000 + 16 * k + 2)) (fun k => σ.2.2.1 (4000 + 16 * k)) = some r_) (hQ : Q = MQ below (va_G1 (some (.long r_)) (fun t => PIC D clsA G dsc ad σ t.heap) A) args s 0 0 A) (hP : PIC D clsA G dsc ad σ H) (hS : va_S A s.heap H locs) (hl : lv_has ls 5 [(0, .ref (ad 1400))]) : W p l e rmX9_mean_p0 s m args below meth c0 H locs 0 0 Q (F0 m 0 ls []) := by
  obtain ⟨⟨hx, hb, hml, hown, hts⟩, hr, hlk⟩ := id E
  unfold xo_X9_mean_p0 at hf
  refine lv_lconst hx hb dX9_mean_0 lc_0 ?_
  refine lv_lstore_n (lv' := [(1, .long 0), (0, .ref (ad 1400))]) hx hb dX9_mean_1 rfl hl (by decide) rfl (fun ls hl => ?_)
  refine lv_iconst hx hb dX9_mean_2 ic_0 ?_
  refine lv_istore_n (lv' := [(3, .int 0), (1, .long 0), (0, .ref (ad 1400))]) hx hb dX9_mean_3 rfl hl (by decide) rfl (fun ls hl => ?_)
  have LP4 : ∀ (st4 : Int64 × Int32) (ex4 : (Unit) ⊕ (Int64)), loop (xo_X9_mean_p0_L4 (σ.1 1062) (σ.1 2008) (σ.1 2012) (σ.1 2013) (σ.1 2027) (σ.1 2032) (σ.2.1 1061) (σ.2.2.1 1170) (σ.2.2.1 2037) (σ.2.2.1 2043) (σ.2.2.2.1 1140) (σ.2.2.2.1 1141) (σ.2.2.2.1 1150) nr nw (fun k => σ.1 (6000 + 16 * k + 2)) (fun k => σ.1 (6000 + 16 * k + 5)) (fun k => σ.1 (6000 + 16 * k + 6)) (fun k => σ.1 (8000 + 16 * k + 0)) (fun k => σ.1 (8000 + 16 * k + 1)) (fun k => σ.1 (8000 + 16 * k + 2)) (fun k => σ.2.2.1 (4000 + 16 * k))) st4 = some ex4 → ∀ (H : Heap) (locs : List Loc), PIC D clsA G dsc ad σ H → va_S A s.heap H locs → ∀ (ls : Array Slot), lv_has ls 5 [(0, .ref (ad 1400)), (1, .long (st4.1)), (3, .int (st4.2))] → (ex4 = (.inl (())) → ∀ (H : Heap) (locs : List Loc), PIC D clsA G dsc ad σ H → va_S A s.heap H locs → ∀ (ls : Array Slot), lv_has ls 5 [] → W p l e rmX9_mean_p0 s m args below meth c0 H locs 0 0 Q (F0 m 52 ls [])) → (∀ (y15 : Int64), ex4 = (.inr y15) → ∀ (H : Heap) (locs : List Loc), PIC D clsA G dsc ad σ H → va_S A s.heap H locs → ∀ (ls : Array Slot), lv_has ls 5 [(1, .long y15)] → W p l e rmX9_mean_p0 s m args below meth c0 H locs 0 0 Q (F0 m 81 ls [])) → W p l e rmX9_mean_p0 s m args below meth c0 H locs 0 0 Q (F0 m 4 ls []) := by
    refine loop_P (fun st4 ex4 o4 hf ih4 hx4 => ?_)
    obtain ⟨y1, y2⟩ := st4
    intro H locs (hP : PIC D clsA G dsc ad σ H) hS ls (hl : lv_has ls 5 [(0, .ref (ad 1400)), (1, .long y1), (3, .int y2)]) KE4_0 KE4_1
    dsimp only [xo_X9_mean_p0_L4] at hf
    refine lv_iload_n hx hb dX9_mean_4 rfl (lv_at hl 2 rfl) ?_
    refine lv_aload_n hx hb dX9_mean_5 rfl (lv_at hl 0 rfl) ?_
    refine gx_X9_3_1400 E hX hD hP dX9_mean_6 ?_
    refine gx_X9_15_1000 E hX hD hP dX9_mean_9 ?_
    obtain ⟨v3, u4, hf⟩ := bdP hf
    refine cx_X9_60_X3_worlds E hX hD hP hS hA (kxX3_worlds l D G hD rfl u4) ⟨rfl, rfl⟩ ⟨Nat.le_of_ble_eq_true rfl, Nat.le_of_ble_eq_true rfl⟩ ⟨Nat.zero_le _, Nat.zero_le _⟩ hl.1 (Nat.le_of_ble_eq_true rfl) dX9_mean_12 (fun H locs hP hS => ?_)
    refine lv_icmp_ge (tgt := 81) hx hb dX9_mean_15 (by decide) (fun c5 => ?_) (fun c5 => ?_)
    · have hf := ifT c5 hf
      exact KE4_1 _ (hx4 _ (Option.some.inj hf).symm).symm H locs hP hS ls (lv_sub hl [1] rfl)
    · have hf := ifF c5 hf
      refine lv_aload_n hx hb dX9_mean_18 rfl (lv_at hl 0 rfl) ?_
      refine gx_X9_3_1400 E hX hD hP dX9_mean_19 ?_
      refine gx_X9_64_1000 E hX hD hP dX9_mean_22 ?_
      refine gx_X9_68_1050 E hX hD hP dX9_mean_25 ?_
      refine lv_iload_n hx hb dX9_mean_28 rfl (lv_at hl 2 rfl) ?_
      obtain ⟨v6, hv6, hf⟩ := bdP hf
      refine p_lald hx hb hX.1 hP (hD.1 _ _ dX_1140) rfl hv6 dX9_mean_29 ?_
      refine lv_lconst hx hb dX9_mean_30 lc_0 ?_
      refine W.lcmp hx hb dX9_mean_31 ?_
      have J75 : ∀ (y7 : Int64), xo_X9_mean_p0_J75 y2 y7 = some o4 → ∀ (H : Heap) (locs : List Loc), PIC D clsA G dsc ad σ H → va_S A s.heap H locs → ∀ (ls : Array Slot), lv_has ls 5 [(0, .ref (ad 1400)), (1, .long y7), (3, .int y2)] → W p l e rmX9_mean_p0 s m args below meth c0 H locs 0 0 Q (F0 m 75 ls []) := by
        intro y7 hf H locs hP hS ls hl
        unfold xo_X9_mean_p0_J75 at hf
        obtain ⟨v8, hv8, hf⟩ := bdP hf
        refine lv_iinc (v := v8) (lv' := [(3, .int v8), (0, .ref (ad 1400)), (1, .long y7)]) hx hb dX9_mean_75 hl (k := 2) rfl (Option.some.inj hv8) (by decide) rfl (fun ls hl => ?_)
        refine lv_goto (tgt := 4) hx hb dX9_mean_78 (by decide) ?_
        exact ih4 _ (Option.some.inj hf).symm H locs hP hS ls (lv_sub hl [1, 2, 0] rfl) KE4_0 KE4_1
      refine lv_if_ne (tgt := 38) hx hb dX9_mean_32 (by decide) (fun c9 => ?_) (fun c9 => ?_)
      · have hf := ifF (mt (lgc_eq _ _).mpr c9) hf
        refine lv_aload_n hx hb dX9_mean_38 rfl (lv_at hl 0 rfl) ?_
        refine lv_iload_n hx hb dX9_mean_39 rfl (lv_at hl 2 rfl) ?_
        obtain ⟨v10, u11, hf⟩ := bdP hf
        refine cx_X9_74_X9_hours_p0 E hX hD hP hS hA (kxX9_hours_p0 l D G hD rfl rfl rfl rfl rfl rfl rfl rfl rfl rfl rfl rfl rfl rfl rfl rfl rfl rfl rfl rfl rfl u11) ⟨rfl, rfl⟩ ⟨Nat.le_of_ble_eq_true rfl, Nat.le_of_ble_eq_true rfl⟩ ⟨Nat.zero_le _, Nat.zero_le _⟩ hl.1 (Nat.le_of_ble_eq_true rfl) dX9_mean_40 (fun H locs hP hS => ?_)
        refine lv_istore (lv' := [(4, .int v10), (0, .ref (ad 1400)), (1, .long y1), (3, .int y2)]) hx hb dX9_mean_43 hl (by decide) rfl (fun ls hl => ?_)
        refine lv_iload hx hb dX9_mean_45 (lv_at hl 0 rfl) ?_
        refine lv_bipush hx hb dX9_mean_47 bp_m2 ?_
        refine lv_icmp_ne (tgt := 56) hx hb dX9_mean_49 (by decide) (fun c12 => ?_) (fun c12 => ?_)
        · have hf := ifF c12 hf
          refine lv_lload_n hx hb dX9_mean_56 rfl (lv_at hl 2 rfl) ?_
          refine lv_aload_n hx hb dX9_mean_57 rfl (lv_at hl 1 rfl) ?_
          refine gx_X9_3_1400 E hX hD hP dX9_mean_58 ?_
          refine gx_X9_64_1000 E hX hD hP dX9_mean_61 ?_
          refine gx_X9_68_1050 E hX hD hP dX9_mean_64 ?_
          refine lv_iload_n hx hb dX9_mean_67 rfl (lv_at hl 3 rfl) ?_
          obtain ⟨v13, hv13, hf⟩ := bdP hf
          refine p_lald hx hb hX.1 hP (hD.1 _ _ dX_1140) rfl hv13 dX9_mean_68 ?_
          refine lv_iload hx hb dX9_mean_69 (lv_at hl 0 rfl) ?_
          refine lv_i2l hx hb dX9_mean_71 rfl ?_
          refine lv_lmul hx hb dX9_mean_72 ?_
          refine lv_ladd hx hb dX9_mean_73 ?_
          obtain ⟨v14, hv14, hf⟩ := bdP hf
          refine nm_l (Option.some.inj hv14) ?_
          refine lv_lstore_n (lv' := [(1, .long v14), (4, .int v10), (0, .ref (ad 1400)), (3, .int y2)]) hx hb dX9_mean_74 rfl hl (by decide) rfl (fun ls hl => ?_)
          exact J75 v14 hf H locs hP hS ls (lv_sub hl [2, 0, 3] rfl)
        · have hf := ifT c12 hf
          exact KE4_0  (hx4 _ (Option.some.inj hf).symm).symm H locs hP hS ls (lv_sub hl [] rfl)
      · have hf := ifT ((lgc_eq _ _).mp c9) hf
        refine lv_goto (tgt := 75) hx hb dX9_mean_35 (by decide) ?_
        exact J75 y1 hf H locs hP hS ls (lv_sub hl [0, 1, 2] rfl)
  obtain ⟨ex4, hlp4, hf⟩ := bdP hf
  refine LP4 (0, 0) ex4 hlp4 H locs hP hS ls (lv_sub hl [2, 1, 0] rfl) ?_ ?_
  · intro  hex4 H locs hP hS ls hl
    subst ex4
    dsimp only [sE_l, sE_r] at hf
    refine lv_ldc2 hx hb hown (hts _ q1345) dX9_mean_52 ?_
    cases hf
    rw [hQ]; exact g_lret hx hb hr hlk hP hS dX9_mean_55
  · intro y15 hex4 H locs hP hS ls hl
    subst ex4
    dsimp only [sE_l, sE_r] at hf
    refine lv_lload_n hx hb dX9_mean_81 rfl (lv_at hl 0 rfl) ?_
    cases hf
    rw [hQ]; exact g_lret hx hb hr hlk hP hS dX9_mean_82
theorem kxX9_mean_p0 (l : Launch) (D : va_G) (G : Nat → ClassId) {dsc : Nat → Option Dsc} {ad : Nat → Nat} {σ : Sto} {nr nw nu : Nat} (hD : XD dsc nr nw nu) {r_ : Int64} {z_TB_by : Int32} (e_zI1062 : σ.1 1062 = z_TB_by) {z_L_places : Int32} (e_zI2008 : σ.1 2008 = z_L_places) {z_L_from : Int32} (e_zI2012 : σ.1 2012 = z_L_from) {z_L_to : Int32} (e_zI2013 : σ.1 2013 = z_L_to) {z_Ld_size : Int32} (e_zI2027 : σ.1 2027 = z_Ld_size) {z_Lw_size : Int32} (e_zI2032 : σ.1 2032 = z_Lw_size) {z_TB_none : Int64} (e_zL1061 : σ.2.1 1061 = z_TB_none) {a_UNIT : Nat → Int32} (e_aI1170 : σ.2.2.1 1170 = a_UNIT) {a_Lw_data : Nat → Int32} (e_aI2037 : σ.2.2.1 2037 = a_Lw_data) {a_L_seen : Nat → Int32} (e_aI2043 : σ.2.2.1 2043 = a_L_seen) {a_W_world : Nat → Int64} (e_aL1140 : σ.2.2.2.1 1140 = a_W_world) {a_W_likely : Nat → Int64} (e_aL1141 : σ.2.2.2.1 1141 = a_W_likely) {a_TB_value : Nat → Int64} (e_aL1150 : σ.2.2.2.1 1150 = a_TB_value) {n_r : Nat} (e_nN0 : nr = n_r) {n_w : Nat} (e_nN1 : nw = n_w) {p_road_hours : Nat → Int32} (e_pR2 : (fun k => σ.1 (6000 + 16 * k + 2)) = p_road_hours) {p_road_wait : Nat → Int32} (e_pR5 : (fun k => σ.1 (6000 + 16 * k + 5)) = p_road_wait) {p_road_number : Nat → Int32} (e_pR6 : (fun k => σ.1 (6000 + 16 * k + 6)) = p_road_number) {p_word_place : Nat → Int32} (e_pW0 : (fun k => σ.1 (8000 + 16 * k + 0)) = p_word_place) {p_word_road : Nat → Int32} (e_pW1 : (fun k => σ.1 (8000 + 16 * k + 1)) = p_word_road) {p_word_hours : Nat → Int32} (e_pW2 : (fun k => σ.1 (8000 + 16 * k + 2)) = p_word_hours) {g_grid : Nat → Nat → Int32} (e_gG0 : (fun k => σ.2.2.1 (4000 + 16 * k)) = g_grid) (hf : xo_X9_mean_p0 z_TB_by z_L_places z_L_from z_L_to z_Ld_size z_Lw_size z_TB_none a_UNIT a_Lw_data a_L_seen a_W_world a_W_likely a_TB_value n_r n_w p_road_hours p_road_wait p_road_number p_word_place p_word_road p_word_hours g_grid = some r_) : CtG l D G dsc ad yX9_mean (ws_ yX9_mean cX9_mean 5 (Option.some Jvm.ClassFile.FieldType.long)) rmX9_mean_p0 [.ref (ad 1400)] σ (some (.long r_)) σ := by
  subst e_zI1062
  subst e_zI2008
  subst e_zI2012
  subst e_zI2013
  subst e_zI2027
  subst e_zI2032
  subst e_zL1061
  subst e_aI1170
  subst e_aI2037
  subst e_aI2043
  subst e_aL1140
  subst e_aL1141
  subst e_aL1150
  subst e_nN0
  subst e_nN1
  subst e_pR2
  subst e_pR5
  subst e_pR6
  subst e_pW0
  subst e_pW1
  subst e_pW2
  subst e_gG0
  exact p_ctG (by decide +kernel) (Nat.le_of_ble_eq_true rfl) (fun p e s m below meth c0 ls A E hP hX hA hS hl => wkX9_mean_p0 E hX hD hA hf rfl hP hS hl)
theorem cx_X9_74_X9_hours_p1 {rm : Room} {σ1 : Sto} {x1 : Int32} {r : Int32} (E : EN p s m args meth c0 RX9 cc nL ret) (hX : KX D G ad A s s.heap) (hD : XD dsc nr nw nu) (hP : PIC D clsA G dsc ad σ H) (hS : va_S A s.heap H locs) (hA : ∀ q, PA dsc ad s.heap.size q → A q) (hM : CtG l D G dsc ad yX9_hours (ws_ yX9_hours cX9_hours 9 (Option.some Jvm.ClassFile.FieldType.int)) rm [.ref (ad 1416), .int x1] σ (some (.int r)) σ1) (hz : rm.cells = 0 ∧ rm.slots = 0) (hR : rm.frames + 1 ≤ R.frames ∧ 8 + (9 + 11) + rm.locals ≤ R.locals) (hcs : cells ≤ R.cells ∧ slots ≤ R.slots) (hsz : ls.size = nL) (hW : (rest.map fun v => v.category).sum ≤ 8) (hdg : decode cc pc = .ok (.invokevirtual 74, 3)) (kk : ∀ (H1 : Heap) (locs1 : List Loc), PIC D clsA G dsc ad σ1 H1 → va_S A s.heap H1 locs1 → W p l e R s m args below meth c0 H1 locs1 cells slots Q (F0 m (pc + 3) ls (.int r :: rest))) : W p l e R s m args below meth c0 H locs cells slots Q (F0 m pc ls (.int x1 :: .ref (ad 1416) :: rest)) :=
  p_gU (As := [.int x1]) (rest := rest) E.1 hX hP hS hA hM (cw_any (owner := "ShutPasses$Plan") (x := ⟨"ShutPasses$Plan", "hours", "(I)I"⟩) (y := yX9_hours) (C := "ShutPasses$ByTable") (index := 74) (own := RX9) 1 E.1.2.2.2.2 (lw_meth q1283) rfl hz.1 hz.2 (E.1.2.2.2.2 _ q1275) (E.1.2.2.2.2 _ q1277) (va_Decl.of (E.1.2.2.2.2 _ q1276) (E.1.2.2.2.2 _ q1283)) (E.1.2.2.2.2 _ q1279) (E.1.2.2.2.2 _ q1276) (E.1.2.2.2.2 _ q135) (by decide +kernel) hR) (hD.1 _ _ dX_1416) rfl rfl rfl hsz rfl hW hdg hcs kk
/-! X9_mean_p1 ()J -/
abbrev rmX9_mean_p1 : Room := { frames := 48, cells := 0, slots := 0, locals := 1316 }
set_option maxHeartbeats 4000000 in
theorem wkX9_mean_p1 {r_ : Int64} (E : EN p s m args meth c0 RX9 cX9_mean 5 (Option.some Jvm.ClassFile.FieldType.long)) (hX : KX D G ad A s s.heap) (hD : XD dsc nr nw nu) (hA : ∀ q, PA dsc ad s.heap.size q → A q) (hf : xo_X9_mean_p1 (σ.1 1082) (σ.1 2008) (σ.1 2012) (σ.1 2013) (σ.1 2027) (σ.1 2032) (σ.2.1 1081) (σ.2.2.1 1170) (σ.2.2.1 2037) (σ.2.2.1 2043) (σ.2.2.2.1 1140) (σ.2.2.2.1 1141) (σ.2.2.2.1 1152) nr nw (fun k => σ.1 (6000 + 16 * k + 2)) (fun k => σ.1 (6000 + 16 * k + 5)) (fun k => σ.1 (6000 + 16 * k + 6)) (fun k => σ.1 (8000 + 16 * k + 0)) (fun k => σ.1 (8000 + 16 * k + 1)) (fun k => σ.1 (8000 + 16 * k + 2)) (fun k => σ.2.2.1 (4000 + 16 * k)) = some r_) (hQ : Q = MQ below (va_G1 (some (.long r_)) (fun t => PIC D clsA G dsc ad σ t.heap) A) args s 0 0 A) (hP : PIC D clsA G dsc ad σ H) (hS : va_S A s.heap H locs) (hl : lv_has ls 5 [(0, .ref (ad 1416))]) : W p l e rmX9_mean_p1 s m args below meth c0 H locs 0 0 Q (F0 m 0 ls []) := by
  obtain ⟨⟨hx, hb, hml, hown, hts⟩, hr, hlk⟩ := id E
  unfold xo_X9_mean_p1 at hf
  refine lv_lconst hx hb dX9_mean_0 lc_0 ?_
  refine lv_lstore_n (lv' := [(1, .long 0), (0, .ref (ad 1416))]) hx hb dX9_mean_1 rfl hl (by decide) rfl (fun ls hl => ?_)
  refine lv_iconst hx hb dX9_mean_2 ic_0 ?_
  refine lv_istore_n (lv' := [(3, .int 0), (1, .long 0), (0, .ref (ad 1416))]) hx hb dX9_mean_3 rfl hl (by decide) rfl (fun ls hl => ?_)
  have LP4 : ∀ (st4 : Int64 × Int32) (ex4 : (Unit) ⊕ (Int64)), loop (xo_X9_mean_p1_L4 (σ.1 1082) (σ.1 2008) (σ.1 2012) (σ.1 2013) (σ.1 2027) (σ.1 2032) (σ.2.1 1081) (σ.2.2.1 1170) (σ.2.2.1 2037) (σ.2.2.1 2043) (σ.2.2.2.1 1140) (σ.2.2.2.1 1141) (σ.2.2.2.1 1152) nr nw (fun k => σ.1 (6000 + 16 * k + 2)) (fun k => σ.1 (6000 + 16 * k + 5)) (fun k => σ.1 (6000 + 16 * k + 6)) (fun k => σ.1 (8000 + 16 * k + 0)) (fun k => σ.1 (8000 + 16 * k + 1)) (fun k => σ.1 (8000 + 16 * k + 2)) (fun k => σ.2.2.1 (4000 + 16 * k))) st4 = some ex4 → ∀ (H : Heap) (locs : List Loc), PIC D clsA G dsc ad σ H → va_S A s.heap H locs → ∀ (ls : Array Slot), lv_has ls 5 [(0, .ref (ad 1416)), (1, .long (st4.1)), (3, .int (st4.2))] → (ex4 = (.inl (())) → ∀ (H : Heap) (locs : List Loc), PIC D clsA G dsc ad σ H → va_S A s.heap H locs → ∀ (ls : Array Slot), lv_has ls 5 [] → W p l e rmX9_mean_p1 s m args below meth c0 H locs 0 0 Q (F0 m 52 ls [])) → (∀ (y15 : Int64), ex4 = (.inr y15) → ∀ (H : Heap) (locs : List Loc), PIC D clsA G dsc ad σ H → va_S A s.heap H locs → ∀ (ls : Array Slot), lv_has ls 5 [(1, .long y15)] → W p l e rmX9_mean_p1 s m args below meth c0 H locs 0 0 Q (F0 m 81 ls [])) → W p l e rmX9_mean_p1 s m args below meth c0 H locs 0 0 Q (F0 m 4 ls []) := by
    refine loop_P (fun st4 ex4 o4 hf ih4 hx4 => ?_)
    obtain ⟨y1, y2⟩ := st4
    intro H locs (hP : PIC D clsA G dsc ad σ H) hS ls (hl : lv_has ls 5 [(0, .ref (ad 1416)), (1, .long y1), (3, .int y2)]) KE4_0 KE4_1
    dsimp only [xo_X9_mean_p1_L4] at hf
    refine lv_iload_n hx hb dX9_mean_4 rfl (lv_at hl 2 rfl) ?_
    refine lv_aload_n hx hb dX9_mean_5 rfl (lv_at hl 0 rfl) ?_
    refine gx_X9_3_1416 E hX hD hP dX9_mean_6 ?_
    refine gx_X9_15_1000 E hX hD hP dX9_mean_9 ?_
    obtain ⟨v3, u4, hf⟩ := bdP hf
    refine cx_X9_60_X3_worlds E hX hD hP hS hA (kxX3_worlds l D G hD rfl u4) ⟨rfl, rfl⟩ ⟨Nat.le_of_ble_eq_true rfl, Nat.le_of_ble_eq_true rfl⟩ ⟨Nat.zero_le _, Nat.zero_le _⟩ hl.1 (Nat.le_of_ble_eq_true rfl) dX9_mean_12 (fun H locs hP hS => ?_)
    refine lv_icmp_ge (tgt := 81) hx hb dX9_mean_15 (by decide) (fun c5 => ?_) (fun c5 => ?_)
    · have hf := ifT c5 hf
      exact KE4_1 _ (hx4 _ (Option.some.inj hf).symm).symm H locs hP hS ls (lv_sub hl [1] rfl)
    · have hf := ifF c5 hf
      refine lv_aload_n hx hb dX9_mean_18 rfl (lv_at hl 0 rfl) ?_
      refine gx_X9_3_1416 E hX hD hP dX9_mean_19 ?_
      refine gx_X9_64_1000 E hX hD hP dX9_mean_22 ?_
      refine gx_X9_68_1050 E hX hD hP dX9_mean_25 ?_
      refine lv_iload_n hx hb dX9_mean_28 rfl (lv_at hl 2 rfl) ?_
      obtain ⟨v6, hv6, hf⟩ := bdP hf
      refine p_lald hx hb hX.1 hP (hD.1 _ _ dX_1140) rfl hv6 dX9_mean_29 ?_
      refine lv_lconst hx hb dX9_mean_30 lc_0 ?_
      refine W.lcmp hx hb dX9_mean_31 ?_
      have J75 : ∀ (y7 : Int64), xo_X9_mean_p1_J75 y2 y7 = some o4 → ∀ (H : Heap) (locs : List Loc), PIC D clsA G dsc ad σ H → va_S A s.heap H locs → ∀ (ls : Array Slot), lv_has ls 5 [(0, .ref (ad 1416)), (1, .long y7), (3, .int y2)] → W p l e rmX9_mean_p1 s m args below meth c0 H locs 0 0 Q (F0 m 75 ls []) := by
        intro y7 hf H locs hP hS ls hl
        unfold xo_X9_mean_p1_J75 at hf
        obtain ⟨v8, hv8, hf⟩ := bdP hf
        refine lv_iinc (v := v8) (lv' := [(3, .int v8), (0, .ref (ad 1416)), (1, .long y7)]) hx hb dX9_mean_75 hl (k := 2) rfl (Option.some.inj hv8) (by decide) rfl (fun ls hl => ?_)
        refine lv_goto (tgt := 4) hx hb dX9_mean_78 (by decide) ?_
        exact ih4 _ (Option.some.inj hf).symm H locs hP hS ls (lv_sub hl [1, 2, 0] rfl) KE4_0 KE4_1
      refine lv_if_ne (tgt := 38) hx hb dX9_mean_32 (by decide) (fun c9 => ?_) (fun c9 => ?_)
      · have hf := ifF (mt (lgc_eq _ _).mpr c9) hf
        refine lv_aload_n hx hb dX9_mean_38 rfl (lv_at hl 0 rfl) ?_
        refine lv_iload_n hx hb dX9_mean_39 rfl (lv_at hl 2 rfl) ?_
        obtain ⟨v10, u11, hf⟩ := bdP hf
        refine cx_X9_74_X9_hours_p1 E hX hD hP hS hA (kxX9_hours_p1 l D G hD rfl rfl rfl rfl rfl rfl rfl rfl rfl rfl rfl rfl rfl rfl rfl rfl rfl rfl rfl rfl rfl u11) ⟨rfl, rfl⟩ ⟨Nat.le_of_ble_eq_true rfl, Nat.le_of_ble_eq_true rfl⟩ ⟨Nat.zero_le _, Nat.zero_le _⟩ hl.1 (Nat.le_of_ble_eq_true rfl) dX9_mean_40 (fun H locs hP hS => ?_)
        refine lv_istore (lv' := [(4, .int v10), (0, .ref (ad 1416)), (1, .long y1), (3, .int y2)]) hx hb dX9_mean_43 hl (by decide) rfl (fun ls hl => ?_)
        refine lv_iload hx hb dX9_mean_45 (lv_at hl 0 rfl) ?_
        refine lv_bipush hx hb dX9_mean_47 bp_m2 ?_
        refine lv_icmp_ne (tgt := 56) hx hb dX9_mean_49 (by decide) (fun c12 => ?_) (fun c12 => ?_)
        · have hf := ifF c12 hf
          refine lv_lload_n hx hb dX9_mean_56 rfl (lv_at hl 2 rfl) ?_
          refine lv_aload_n hx hb dX9_mean_57 rfl (lv_at hl 1 rfl) ?_
          refine gx_X9_3_1416 E hX hD hP dX9_mean_58 ?_
          refine gx_X9_64_1000 E hX hD hP dX9_mean_61 ?_
          refine gx_X9_68_1050 E hX hD hP dX9_mean_64 ?_
          refine lv_iload_n hx hb dX9_mean_67 rfl (lv_at hl 3 rfl) ?_
          obtain ⟨v13, hv13, hf⟩ := bdP hf
          refine p_lald hx hb hX.1 hP (hD.1 _ _ dX_1140) rfl hv13 dX9_mean_68 ?_
          refine lv_iload hx hb dX9_mean_69 (lv_at hl 0 rfl) ?_
          refine lv_i2l hx hb dX9_mean_71 rfl ?_
          refine lv_lmul hx hb dX9_mean_72 ?_
          refine lv_ladd hx hb dX9_mean_73 ?_
          obtain ⟨v14, hv14, hf⟩ := bdP hf
          refine nm_l (Option.some.inj hv14) ?_
          refine lv_lstore_n (lv' := [(1, .long v14), (4, .int v10), (0, .ref (ad 1416)), (3, .int y2)]) hx hb dX9_mean_74 rfl hl (by decide) rfl (fun ls hl => ?_)
          exact J75 v14 hf H locs hP hS ls (lv_sub hl [2, 0, 3] rfl)
        · have hf := ifT c12 hf
          exact KE4_0  (hx4 _ (Option.some.inj hf).symm).symm H locs hP hS ls (lv_sub hl [] rfl)
      · have hf := ifT ((lgc_eq _ _).mp c9) hf
        refine lv_goto (tgt := 75) hx hb dX9_mean_35 (by decide) ?_
        exact J75 y1 hf H locs hP hS ls (lv_sub hl [0, 1, 2] rfl)
  obtain ⟨ex4, hlp4, hf⟩ := bdP hf
  refine LP4 (0, 0) ex4 hlp4 H locs hP hS ls (lv_sub hl [2, 1, 0] rfl) ?_ ?_
  · intro  hex4 H locs hP hS ls hl
    subst ex4
    dsimp only [sE_l, sE_r] at hf
    refine lv_ldc2 hx hb hown (hts _ q1345) dX9_mean_52 ?_
    cases hf
    rw [hQ]; exact g_lret hx hb hr hlk hP hS dX9_mean_55
  · intro y15 hex4 H locs hP hS ls hl
    subst ex4
    dsimp only [sE_l, sE_r] at hf
    refine lv_lload_n hx hb dX9_mean_81 rfl (lv_at hl 0 rfl) ?_
    cases hf
    rw [hQ]; exact g_lret hx hb hr hlk hP hS dX9_mean_82
theorem kxX9_mean_p1 (l : Launch) (D : va_G) (G : Nat → ClassId) {dsc : Nat → Option Dsc} {ad : Nat → Nat} {σ : Sto} {nr nw nu : Nat} (hD : XD dsc nr nw nu) {r_ : Int64} {z_TS_by : Int32} (e_zI1082 : σ.1 1082 = z_TS_by) {z_L_places : Int32} (e_zI2008 : σ.1 2008 = z_L_places) {z_L_from : Int32} (e_zI2012 : σ.1 2012 = z_L_from) {z_L_to : Int32} (e_zI2013 : σ.1 2013 = z_L_to) {z_Ld_size : Int32} (e_zI2027 : σ.1 2027 = z_Ld_size) {z_Lw_size : Int32} (e_zI2032 : σ.1 2032 = z_Lw_size) {z_TS_none : Int64} (e_zL1081 : σ.2.1 1081 = z_TS_none) {a_UNIT : Nat → Int32} (e_aI1170 : σ.2.2.1 1170 = a_UNIT) {a_Lw_data : Nat → Int32} (e_aI2037 : σ.2.2.1 2037 = a_Lw_data) {a_L_seen : Nat → Int32} (e_aI2043 : σ.2.2.1 2043 = a_L_seen) {a_W_world : Nat → Int64} (e_aL1140 : σ.2.2.2.1 1140 = a_W_world) {a_W_likely : Nat → Int64} (e_aL1141 : σ.2.2.2.1 1141 = a_W_likely) {a_TS_value : Nat → Int64} (e_aL1152 : σ.2.2.2.1 1152 = a_TS_value) {n_r : Nat} (e_nN0 : nr = n_r) {n_w : Nat} (e_nN1 : nw = n_w) {p_road_hours : Nat → Int32} (e_pR2 : (fun k => σ.1 (6000 + 16 * k + 2)) = p_road_hours) {p_road_wait : Nat → Int32} (e_pR5 : (fun k => σ.1 (6000 + 16 * k + 5)) = p_road_wait) {p_road_number : Nat → Int32} (e_pR6 : (fun k => σ.1 (6000 + 16 * k + 6)) = p_road_number) {p_word_place : Nat → Int32} (e_pW0 : (fun k => σ.1 (8000 + 16 * k + 0)) = p_word_place) {p_word_road : Nat → Int32} (e_pW1 : (fun k => σ.1 (8000 + 16 * k + 1)) = p_word_road) {p_word_hours : Nat → Int32} (e_pW2 : (fun k => σ.1 (8000 + 16 * k + 2)) = p_word_hours) {g_grid : Nat → Nat → Int32} (e_gG0 : (fun k => σ.2.2.1 (4000 + 16 * k)) = g_grid) (hf : xo_X9_mean_p1 z_TS_by z_L_places z_L_from z_L_to z_Ld_size z_Lw_size z_TS_none a_UNIT a_Lw_data a_L_seen a_W_world a_W_likely a_TS_value n_r n_w p_road_hours p_road_wait p_road_number p_word_place p_word_road p_word_hours g_grid = some r_) : CtG l D G dsc ad yX9_mean (ws_ yX9_mean cX9_mean 5 (Option.some Jvm.ClassFile.FieldType.long)) rmX9_mean_p1 [.ref (ad 1416)] σ (some (.long r_)) σ := by
  subst e_zI1082
  subst e_zI2008
  subst e_zI2012
  subst e_zI2013
  subst e_zI2027
  subst e_zI2032
  subst e_zL1081
  subst e_aI1170
  subst e_aI2037
  subst e_aI2043
  subst e_aL1140
  subst e_aL1141
  subst e_aL1152
  subst e_nN0
  subst e_nN1
  subst e_pR2
  subst e_pR5
  subst e_pR6
  subst e_pW0
  subst e_pW1
  subst e_pW2
  subst e_gG0
  exact p_ctG (by decide +kernel) (Nat.le_of_ble_eq_true rfl) (fun p e s m below meth c0 ls A E hP hX hA hS hl => wkX9_mean_p1 E hX hD hA hf rfl hP hS hl)
theorem cx_X9_74_X9_hours_p2 {rm : Room} {σ1 : Sto} {x1 : Int32} {r : Int32} (E : EN p s m args meth c0 RX9 cc nL ret) (hX : KX D G ad A s s.heap) (hD : XD dsc nr nw nu) (hP : PIC D clsA G dsc ad σ H) (hS : va_S A s.heap H locs) (hA : ∀ q, PA dsc ad s.heap.size q → A q) (hM : CtG l D G dsc ad yX9_hours (ws_ yX9_hours cX9_hours 9 (Option.some Jvm.ClassFile.FieldType.int)) rm [.ref (ad 1432), .int x1] σ (some (.int r)) σ1) (hz : rm.cells = 0 ∧ rm.slots = 0) (hR : rm.frames + 1 ≤ R.frames ∧ 8 + (9 + 11) + rm.locals ≤ R.locals) (hcs : cells ≤ R.cells ∧ slots ≤ R.slots) (hsz : ls.size = nL) (hW : (rest.map fun v => v.category).sum ≤ 8) (hdg : decode cc pc = .ok (.invokevirtual 74, 3)) (kk : ∀ (H1 : Heap) (locs1 : List Loc), PIC D clsA G dsc ad σ1 H1 → va_S A s.heap H1 locs1 → W p l e R s m args below meth c0 H1 locs1 cells slots Q (F0 m (pc + 3) ls (.int r :: rest))) : W p l e R s m args below meth c0 H locs cells slots Q (F0 m pc ls (.int x1 :: .ref (ad 1432) :: rest)) :=
  p_gU (As := [.int x1]) (rest := rest) E.1 hX hP hS hA hM (cw_any (owner := "ShutPasses$Plan") (x := ⟨"ShutPasses$Plan", "hours", "(I)I"⟩) (y := yX9_hours) (C := "ShutPasses$ByTable") (index := 74) (own := RX9) 1 E.1.2.2.2.2 (lw_meth q1283) rfl hz.1 hz.2 (E.1.2.2.2.2 _ q1275) (E.1.2.2.2.2 _ q1277) (va_Decl.of (E.1.2.2.2.2 _ q1276) (E.1.2.2.2.2 _ q1283)) (E.1.2.2.2.2 _ q1279) (E.1.2.2.2.2 _ q1276) (E.1.2.2.2.2 _ q135) (by decide +kernel) hR) (hD.1 _ _ dX_1432) rfl rfl rfl hsz rfl hW hdg hcs kk
/-! X9_mean_p2 ()J -/
abbrev rmX9_mean_p2 : Room := { frames := 49, cells := 0, slots := 0, locals := 1337 }
set_option maxHeartbeats 4000000 in
theorem wkX9_mean_p2 {r_ : Int64} (E : EN p s m args meth c0 RX9 cX9_mean 5 (Option.some Jvm.ClassFile.FieldType.long)) (hX : KX D G ad A s s.heap) (hD : XD dsc nr nw nu) (hA : ∀ q, PA dsc ad s.heap.size q → A q) (hf : xo_X9_mean_p2 (σ.1 1092) (σ.1 1094) (σ.1 1095) (σ.1 2008) (σ.1 2012) (σ.1 2013) (σ.1 2027) (σ.1 2032) (σ.2.1 1091) (σ.2.2.1 1108) (σ.2.2.1 1170) (σ.2.2.1 2037) (σ.2.2.1 2043) (σ.2.2.2.1 1140) (σ.2.2.2.1 1141) (σ.2.2.2.1 1153) nr nw (fun k => σ.1 (6000 + 16 * k + 2)) (fun k => σ.1 (6000 + 16 * k + 5)) (fun k => σ.1 (6000 + 16 * k + 6)) (fun k => σ.1 (8000 + 16 * k + 0)) (fun k => σ.1 (8000 + 16 * k + 1)) (fun k => σ.1 (8000 + 16 * k + 2)) (fun k => σ.2.2.1 (4000 + 16 * k)) = some r_) (hQ : Q = MQ below (va_G1 (some (.long r_)) (fun t => PIC D clsA G dsc ad σ t.heap) A) args s 0 0 A) (hP : PIC D clsA G dsc ad σ H) (hS : va_S A s.heap H locs) (hl : lv_has ls 5 [(0, .ref (ad 1432))]) : W p l e rmX9_mean_p2 s m args below meth c0 H locs 0 0 Q (F0 m 0 ls []) := by
  obtain ⟨⟨hx, hb, hml, hown, hts⟩, hr, hlk⟩ := id E
  unfold xo_X9_mean_p2 at hf
  refine lv_lconst hx hb dX9_mean_0 lc_0 ?_
  refine lv_lstore_n (lv' := [(1, .long 0), (0, .ref (ad 1432))]) hx hb dX9_mean_1 rfl hl (by decide) rfl (fun ls hl => ?_)
  refine lv_iconst hx hb dX9_mean_2 ic_0 ?_
  refine lv_istore_n (lv' := [(3, .int 0), (1, .long 0), (0, .ref (ad 1432))]) hx hb dX9_mean_3 rfl hl (by decide) rfl (fun ls hl => ?_)
  have LP4 : ∀ (st4 : Int64 × Int32) (ex4 : (Unit) ⊕ (Int64)), loop (xo_X9_mean_p2_L4 (σ.1 1092) (σ.1 1094) (σ.1 1095) (σ.1 2008) (σ.1 2012) (σ.1 2013) (σ.1 2027) (σ.1 2032) (σ.2.1 1091) (σ.2.2.1 1108) (σ.2.2.1 1170) (σ.2.2.1 2037) (σ.2.2.1 2043) (σ.2.2.2.1 1140) (σ.2.2.2.1 1141) (σ.2.2.2.1 1153) nr nw (fun k => σ.1 (6000 + 16 * k + 2)) (fun k => σ.1 (6000 + 16 * k + 5)) (fun k => σ.1 (6000 + 16 * k + 6)) (fun k => σ.1 (8000 + 16 * k + 0)) (fun k => σ.1 (8000 + 16 * k + 1)) (fun k => σ.1 (8000 + 16 * k + 2)) (fun k => σ.2.2.1 (4000 + 16 * k))) st4 = some ex4 → ∀ (H : Heap) (locs : List Loc), PIC D clsA G dsc ad σ H → va_S A s.heap H locs → ∀ (ls : Array Slot), lv_has ls 5 [(0, .ref (ad 1432)), (1, .long (st4.1)), (3, .int (st4.2))] → (ex4 = (.inl (())) → ∀ (H : Heap) (locs : List Loc), PIC D clsA G dsc ad σ H → va_S A s.heap H locs → ∀ (ls : Array Slot), lv_has ls 5 [] → W p l e rmX9_mean_p2 s m args below meth c0 H locs 0 0 Q (F0 m 52 ls [])) → (∀ (y15 : Int64), ex4 = (.inr y15) → ∀ (H : Heap) (locs : List Loc), PIC D clsA G dsc ad σ H → va_S A s.heap H locs → ∀ (ls : Array Slot), lv_has ls 5 [(1, .long y15)] → W p l e rmX9_mean_p2 s m args below meth c0 H locs 0 0 Q (F0 m 81 ls [])) → W p l e rmX9_mean_p2 s m args below meth c0 H locs 0 0 Q (F0 m 4 ls []) := by
    refine loop_P (fun st4 ex4 o4 hf ih4 hx4 => ?_)
    obtain ⟨y1, y2⟩ := st4
    intro H locs (hP : PIC D clsA G dsc ad σ H) hS ls (hl : lv_has ls 5 [(0, .ref (ad 1432)), (1, .long y1), (3, .int y2)]) KE4_0 KE4_1
    dsimp only [xo_X9_mean_p2_L4] at hf
    refine lv_iload_n hx hb dX9_mean_4 rfl (lv_at hl 2 rfl) ?_
    refine lv_aload_n hx hb dX9_mean_5 rfl (lv_at hl 0 rfl) ?_
    refine gx_X9_3_1432 E hX hD hP dX9_mean_6 ?_
    refine gx_X9_15_1000 E hX hD hP dX9_mean_9 ?_
    obtain ⟨v3, u4, hf⟩ := bdP hf
    refine cx_X9_60_X3_worlds E hX hD hP hS hA (kxX3_worlds l D G hD rfl u4) ⟨rfl, rfl⟩ ⟨Nat.le_of_ble_eq_true rfl, Nat.le_of_ble_eq_true rfl⟩ ⟨Nat.zero_le _, Nat.zero_le _⟩ hl.1 (Nat.le_of_ble_eq_true rfl) dX9_mean_12 (fun H locs hP hS => ?_)
    refine lv_icmp_ge (tgt := 81) hx hb dX9_mean_15 (by decide) (fun c5 => ?_) (fun c5 => ?_)
    · have hf := ifT c5 hf
      exact KE4_1 _ (hx4 _ (Option.some.inj hf).symm).symm H locs hP hS ls (lv_sub hl [1] rfl)
    · have hf := ifF c5 hf
      refine lv_aload_n hx hb dX9_mean_18 rfl (lv_at hl 0 rfl) ?_
      refine gx_X9_3_1432 E hX hD hP dX9_mean_19 ?_
      refine gx_X9_64_1000 E hX hD hP dX9_mean_22 ?_
      refine gx_X9_68_1050 E hX hD hP dX9_mean_25 ?_
      refine lv_iload_n hx hb dX9_mean_28 rfl (lv_at hl 2 rfl) ?_
      obtain ⟨v6, hv6, hf⟩ := bdP hf
      refine p_lald hx hb hX.1 hP (hD.1 _ _ dX_1140) rfl hv6 dX9_mean_29 ?_
      refine lv_lconst hx hb dX9_mean_30 lc_0 ?_
      refine W.lcmp hx hb dX9_mean_31 ?_
      have J75 : ∀ (y7 : Int64), xo_X9_mean_p2_J75 y2 y7 = some o4 → ∀ (H : Heap) (locs : List Loc), PIC D clsA G dsc ad σ H → va_S A s.heap H locs → ∀ (ls : Array Slot), lv_has ls 5 [(0, .ref (ad 1432)), (1, .long y7), (3, .int y2)] → W p l e rmX9_mean_p2 s m args below meth c0 H locs 0 0 Q (F0 m 75 ls []) := by
        intro y7 hf H locs hP hS ls hl
        unfold xo_X9_mean_p2_J75 at hf
        obtain ⟨v8, hv8, hf⟩ := bdP hf
        refine lv_iinc (v := v8) (lv' := [(3, .int v8), (0, .ref (ad 1432)), (1, .long y7)]) hx hb dX9_mean_75 hl (k := 2) rfl (Option.some.inj hv8) (by decide) rfl (fun ls hl => ?_)
        refine lv_goto (tgt := 4) hx hb dX9_mean_78 (by decide) ?_
        exact ih4 _ (Option.some.inj hf).symm H locs hP hS ls (lv_sub hl [1, 2, 0] rfl) KE4_0 KE4_1
      refine lv_if_ne (tgt := 38) hx hb dX9_mean_32 (by decide) (fun c9 => ?_) (fun c9 => ?_)
      · have hf := ifF (mt (lgc_eq _ _).mpr c9) hf
        refine lv_aload_n hx hb dX9_mean_38 rfl (lv_at hl 0 rfl) ?_
        refine lv_iload_n hx hb dX9_mean_39 rfl (lv_at hl 2 rfl) ?_
        obtain ⟨v10, u11, hf⟩ := bdP hf
        refine cx_X9_74_X9_hours_p2 E hX hD hP hS hA (kxX9_hours_p2 l D G hD rfl rfl rfl rfl rfl rfl rfl rfl rfl rfl rfl rfl rfl rfl rfl rfl rfl rfl rfl rfl rfl rfl rfl rfl rfl u11) ⟨rfl, rfl⟩ ⟨Nat.le_of_ble_eq_true rfl, Nat.le_of_ble_eq_true rfl⟩ ⟨Nat.zero_le _, Nat.zero_le _⟩ hl.1 (Nat.le_of_ble_eq_true rfl) dX9_mean_40 (fun H locs hP hS => ?_)
        refine lv_istore (lv' := [(4, .int v10), (0, .ref (ad 1432)), (1, .long y1), (3, .int y2)]) hx hb dX9_mean_43 hl (by decide) rfl (fun ls hl => ?_)
        refine lv_iload hx hb dX9_mean_45 (lv_at hl 0 rfl) ?_
        refine lv_bipush hx hb dX9_mean_47 bp_m2 ?_
        refine lv_icmp_ne (tgt := 56) hx hb dX9_mean_49 (by decide) (fun c12 => ?_) (fun c12 => ?_)
        · have hf := ifF c12 hf
          refine lv_lload_n hx hb dX9_mean_56 rfl (lv_at hl 2 rfl) ?_
          refine lv_aload_n hx hb dX9_mean_57 rfl (lv_at hl 1 rfl) ?_
          refine gx_X9_3_1432 E hX hD hP dX9_mean_58 ?_
          refine gx_X9_64_1000 E hX hD hP dX9_mean_61 ?_
          refine gx_X9_68_1050 E hX hD hP dX9_mean_64 ?_
          refine lv_iload_n hx hb dX9_mean_67 rfl (lv_at hl 3 rfl) ?_
          obtain ⟨v13, hv13, hf⟩ := bdP hf
          refine p_lald hx hb hX.1 hP (hD.1 _ _ dX_1140) rfl hv13 dX9_mean_68 ?_
          refine lv_iload hx hb dX9_mean_69 (lv_at hl 0 rfl) ?_
          refine lv_i2l hx hb dX9_mean_71 rfl ?_
          refine lv_lmul hx hb dX9_mean_72 ?_
          refine lv_ladd hx hb dX9_mean_73 ?_
          obtain ⟨v14, hv14, hf⟩ := bdP hf
          refine nm_l (Option.some.inj hv14) ?_
          refine lv_lstore_n (lv' := [(1, .long v14), (4, .int v10), (0, .ref (ad 1432)), (3, .int y2)]) hx hb dX9_mean_74 rfl hl (by decide) rfl (fun ls hl => ?_)
          exact J75 v14 hf H locs hP hS ls (lv_sub hl [2, 0, 3] rfl)
        · have hf := ifT c12 hf
          exact KE4_0  (hx4 _ (Option.some.inj hf).symm).symm H locs hP hS ls (lv_sub hl [] rfl)
      · have hf := ifT ((lgc_eq _ _).mp c9) hf
        refine lv_goto (tgt := 75) hx hb dX9_mean_35 (by decide) ?_
        exact J75 y1 hf H locs hP hS ls (lv_sub hl [0, 1, 2] rfl)
  obtain ⟨ex4, hlp4, hf⟩ := bdP hf
  refine LP4 (0, 0) ex4 hlp4 H locs hP hS ls (lv_sub hl [2, 1, 0] rfl) ?_ ?_
  · intro  hex4 H locs hP hS ls hl
    subst ex4
    dsimp only [sE_l, sE_r] at hf
    refine lv_ldc2 hx hb hown (hts _ q1345) dX9_mean_52 ?_
    cases hf
    rw [hQ]; exact g_lret hx hb hr hlk hP hS dX9_mean_55
  · intro y15 hex4 H locs hP hS ls hl
    subst ex4
    dsimp only [sE_l, sE_r] at hf
    refine lv_lload_n hx hb dX9_mean_81 rfl (lv_at hl 0 rfl) ?_
    cases hf
    rw [hQ]; exact g_lret hx hb hr hlk hP hS dX9_mean_82
theorem kxX9_mean_p2 (l : Launch) (D : va_G) (G : Nat → ClassId) {dsc : Nat → Option Dsc} {ad : Nat → Nat} {σ : Sto} {nr nw nu : Nat} (hD : XD dsc nr nw nu) {r_ : Int64} {z_TF_by : Int32} (e_zI1092 : σ.1 1092 = z_TF_by) {z_TF_times : Int32} (e_zI1094 : σ.1 1094 = z_TF_times) {z_TF_of : Int32} (e_zI1095 : σ.1 1095 = z_TF_of) {z_L_places : Int32} (e_zI2008 : σ.1 2008 = z_L_places) {z_L_from : Int32} (e_zI2012 : σ.1 2012 = z_L_from) {z_L_to : Int32} (e_zI2013 : σ.1 2013 = z_L_to) {z_Ld_size : Int32} (e_zI2027 : σ.1 2027 = z_Ld_size) {z_Lw_size : Int32} (e_zI2032 : σ.1 2032 = z_Lw_size) {z_TF_none : Int64} (e_zL1091 : σ.2.1 1091 = z_TF_none) {a_X_knowing : Nat → Int32} (e_aI1108 : σ.2.2.1 1108 = a_X_knowing) {a_UNIT : Nat → Int32} (e_aI1170 : σ.2.2.1 1170 = a_UNIT) {a_Lw_data : Nat → Int32} (e_aI2037 : σ.2.2.1 2037 = a_Lw_data) {a_L_seen : Nat → Int32} (e_aI2043 : σ.2.2.1 2043 = a_L_seen) {a_W_world : Nat → Int64} (e_aL1140 : σ.2.2.2.1 1140 = a_W_world) {a_W_likely : Nat → Int64} (e_aL1141 : σ.2.2.2.1 1141 = a_W_likely) {a_TF_value : Nat → Int64} (e_aL1153 : σ.2.2.2.1 1153 = a_TF_value) {n_r : Nat} (e_nN0 : nr = n_r) {n_w : Nat} (e_nN1 : nw = n_w) {p_road_hours : Nat → Int32} (e_pR2 : (fun k => σ.1 (6000 + 16 * k + 2)) = p_road_hours) {p_road_wait : Nat → Int32} (e_pR5 : (fun k => σ.1 (6000 + 16 * k + 5)) = p_road_wait) {p_road_number : Nat → Int32} (e_pR6 : (fun k => σ.1 (6000 + 16 * k + 6)) = p_road_number) {p_word_place : Nat → Int32} (e_pW0 : (fun k => σ.1 (8000 + 16 * k + 0)) = p_word_place) {p_word_road : Nat → Int32} (e_pW1 : (fun k => σ.1 (8000 + 16 * k + 1)) = p_word_road) {p_word_hours : Nat → Int32} (e_pW2 : (fun k => σ.1 (8000 + 16 * k + 2)) = p_word_hours) {g_grid : Nat → Nat → Int32} (e_gG0 : (fun k => σ.2.2.1 (4000 + 16 * k)) = g_grid) (hf : xo_X9_mean_p2 z_TF_by z_TF_times z_TF_of z_L_places z_L_from z_L_to z_Ld_size z_Lw_size z_TF_none a_X_knowing a_UNIT a_Lw_data a_L_seen a_W_world a_W_likely a_TF_value n_r n_w p_road_hours p_road_wait p_road_number p_word_place p_word_road p_word_hours g_grid = some r_) : CtG l D G dsc ad yX9_mean (ws_ yX9_mean cX9_mean 5 (Option.some Jvm.ClassFile.FieldType.long)) rmX9_mean_p2 [.ref (ad 1432)] σ (some (.long r_)) σ := by
  subst e_zI1092
  subst e_zI1094
  subst e_zI1095
  subst e_zI2008
  subst e_zI2012
  subst e_zI2013
  subst e_zI2027
  subst e_zI2032
  subst e_zL1091
  subst e_aI1108
  subst e_aI1170
  subst e_aI2037
  subst e_aI2043
  subst e_aL1140
  subst e_aL1141
  subst e_aL1153
  subst e_nN0
  subst e_nN1
  subst e_pR2
  subst e_pR5
  subst e_pR6
  subst e_pW0
  subst e_pW1
  subst e_pW2
  subst e_gG0
  exact p_ctG (by decide +kernel) (Nat.le_of_ble_eq_true rfl) (fun p e s m below meth c0 ls A E hP hX hA hS hl => wkX9_mean_p2 E hX hD hA hf rfl hP hS hl)
theorem cx_X9_74_X9_hours_p3 {rm : Room} {σ1 : Sto} {x1 : Int32} {r : Int32} (E : EN p s m args meth c0 RX9 cc nL ret) (hX : KX D G ad A s s.heap) (hD : XD dsc nr nw nu) (hP : PIC D clsA G dsc ad σ H) (hS : va_S A s.heap H locs) (hA : ∀ q, PA dsc ad s.heap.size q → A q) (hM : CtG l D G dsc ad yX9_hours (ws_ yX9_hours cX9_hours 9 (Option.some Jvm.ClassFile.FieldType.int)) rm [.ref (ad 1448), .int x1] σ (some (.int r)) σ1) (hz : rm.cells = 0 ∧ rm.slots = 0) (hR : rm.frames + 1 ≤ R.frames ∧ 8 + (9 + 11) + rm.locals ≤ R.locals) (hcs : cells ≤ R.cells ∧ slots ≤ R.slots) (hsz : ls.size = nL) (hW : (rest.map fun v => v.category).sum ≤ 8) (hdg : decode cc pc = .ok (.invokevirtual 74, 3)) (kk : ∀ (H1 : Heap) (locs1 : List Loc), PIC D clsA G dsc ad σ1 H1 → va_S A s.heap H1 locs1 → W p l e R s m args below meth c0 H1 locs1 cells slots Q (F0 m (pc + 3) ls (.int r :: rest))) : W p l e R s m args below meth c0 H locs cells slots Q (F0 m pc ls (.int x1 :: .ref (ad 1448) :: rest)) :=
  p_gU (As := [.int x1]) (rest := rest) E.1 hX hP hS hA hM (cw_any (owner := "ShutPasses$Plan") (x := ⟨"ShutPasses$Plan", "hours", "(I)I"⟩) (y := yX9_hours) (C := "ShutPasses$Hope") (index := 74) (own := RX9) 1 E.1.2.2.2.2 (lw_meth q1283) rfl hz.1 hz.2 (E.1.2.2.2.2 _ q1275) (E.1.2.2.2.2 _ q1277) (va_Decl.of (E.1.2.2.2.2 _ q1276) (E.1.2.2.2.2 _ q1283)) (E.1.2.2.2.2 _ q1281) (E.1.2.2.2.2 _ q1276) (E.1.2.2.2.2 _ q135) (by decide +kernel) hR) (hD.1 _ _ dX_1448) rfl rfl rfl hsz rfl hW hdg hcs kk
/-! X9_mean_p3 ()J -/
def sgX9_mean_p3 (σ : Sto) (w0 : Nat → Int32) : Sto := aI σ 1162 w0
theorem sgX9_mean_p3_self (σ : Sto) : sgX9_mean_p3 σ (σ.2.2.1 1162) = σ := by
  unfold sgX9_mean_p3
  simp only [zI_self, zL_self, aI_self, aL_self]
theorem sgX9_mean_p3_aI1162 {σ : Sto} {w0 : Nat → Int32} {g : Nat → Int32} : aI (sgX9_mean_p3 σ w0) 1162 g = sgX9_mean_p3 σ g := aI_aI _ 1162 _ _
theorem sgX9_mean_p3_rzI2008 {σ : Sto} {w0 : Nat → Int32} : (sgX9_mean_p3 σ w0).1 2008 = σ.1 2008 := rfl
theorem sgX9_mean_p3_rzI2012 {σ : Sto} {w0 : Nat → Int32} : (sgX9_mean_p3 σ w0).1 2012 = σ.1 2012 := rfl
theorem sgX9_mean_p3_rzI2013 {σ : Sto} {w0 : Nat → Int32} : (sgX9_mean_p3 σ w0).1 2013 = σ.1 2013 := rfl
theorem sgX9_mean_p3_rzI2027 {σ : Sto} {w0 : Nat → Int32} : (sgX9_mean_p3 σ w0).1 2027 = σ.1 2027 := rfl
theorem sgX9_mean_p3_rzI2032 {σ : Sto} {w0 : Nat → Int32} : (sgX9_mean_p3 σ w0).1 2032 = σ.1 2032 := rfl
theorem sgX9_mean_p3_raI1162 {σ : Sto} {w0 : Nat → Int32} : (sgX9_mean_p3 σ w0).2.2.1 1162 = w0 := rfl
theorem sgX9_mean_p3_raI1170 {σ : Sto} {w0 : Nat → Int32} : (sgX9_mean_p3 σ w0).2.2.1 1170 = σ.2.2.1 1170 := rfl
theorem sgX9_mean_p3_raI2037 {σ : Sto} {w0 : Nat → Int32} : (sgX9_mean_p3 σ w0).2.2.1 2037 = σ.2.2.1 2037 := rfl
theorem sgX9_mean_p3_raI2043 {σ : Sto} {w0 : Nat → Int32} : (sgX9_mean_p3 σ w0).2.2.1 2043 = σ.2.2.1 2043 := rfl
theorem sgX9_mean_p3_raL1140 {σ : Sto} {w0 : Nat → Int32} : (sgX9_mean_p3 σ w0).2.2.2.1 1140 = σ.2.2.2.1 1140 := rfl
theorem sgX9_mean_p3_rpR2 {σ : Sto} {w0 : Nat → Int32} : (fun k => (sgX9_mean_p3 σ w0).1 (6000 + 16 * k + 2)) = (fun k => σ.1 (6000 + 16 * k + 2)) := by
  funext k
  unfold sgX9_mean_p3
  dsimp only [zI, zL, aI, aL]
  repeat rw [if_neg (by omega)]
theorem sgX9_mean_p3_rpR5 {σ : Sto} {w0 : Nat → Int32} : (fun k => (sgX9_mean_p3 σ w0).1 (6000 + 16 * k + 5)) = (fun k => σ.1 (6000 + 16 * k + 5)) := by
  funext k
  unfold sgX9_mean_p3
  dsimp only [zI, zL, aI, aL]
  repeat rw [if_neg (by omega)]
theorem sgX9_mean_p3_rpR6 {σ : Sto} {w0 : Nat → Int32} : (fun k => (sgX9_mean_p3 σ w0).1 (6000 + 16 * k + 6)) = (fun k => σ.1 (6000 + 16 * k + 6)) := by
  funext k
  unfold sgX9_mean_p3
  dsimp only [zI, zL, aI, aL]
  repeat rw [if_neg (by omega)]
theorem sgX9_mean_p3_rpW1 {σ : Sto} {w0 : Nat → Int32} : (fun k => (sgX9_mean_p3 σ w0).1 (8000 + 16 * k + 1)) = (fun k => σ.1 (8000 + 16 * k + 1)) := by
  funext k
  unfold sgX9_mean_p3
  dsimp only [zI, zL, aI, aL]
  repeat rw [if_neg (by omega)]
theorem sgX9_mean_p3_rpW2 {σ : Sto} {w0 : Nat → Int32} : (fun k => (sgX9_mean_p3 σ w0).1 (8000 + 16 * k + 2)) = (fun k => σ.1 (8000 + 16 * k + 2)) := by
  funext k
  unfold sgX9_mean_p3
  dsimp only [zI, zL, aI, aL]
  repeat rw [if_neg (by omega)]
theorem sgX9_mean_p3_rgG0 {σ : Sto} {w0 : Nat → Int32} : (fun k => (sgX9_mean_p3 σ w0).2.2.1 (4000 + 16 * k)) = (fun k => σ.2.2.1 (4000 + 16 * k)) := by
  funext k
  unfold sgX9_mean_p3
  dsimp only [zI, zL, aI, aL]
  repeat rw [if_neg (by omega)]
abbrev rmX9_mean_p3 : Room := { frames := 5, cells := 0, slots := 0, locals := 124 }
set_option maxHeartbeats 4000000 in
theorem wkX9_mean_p3 {r_ : Int64} {w_aI1162 : Nat → Int32} (E : EN p s m args meth c0 RX9 cX9_mean 5 (Option.some Jvm.ClassFile.FieldType.long)) (hX : KX D G ad A s s.heap) (hD : XD dsc nr nw nu) (hA : ∀ q, PA dsc ad s.heap.size q → A q) (hf : xo_X9_mean_p3 (σ.1 2008) (σ.1 2012) (σ.1 2013) (σ.1 2027) (σ.1 2032) (σ.2.2.1 1162) (σ.2.2.1 1170) (σ.2.2.1 2037) (σ.2.2.1 2043) (σ.2.2.2.1 1140) nr nw (fun k => σ.1 (6000 + 16 * k + 2)) (fun k => σ.1 (6000 + 16 * k + 5)) (fun k => σ.1 (6000 + 16 * k + 6)) (fun k => σ.1 (8000 + 16 * k + 1)) (fun k => σ.1 (8000 + 16 * k + 2)) (fun k => σ.2.2.1 (4000 + 16 * k)) = some (r_, w_aI1162)) (hQ : Q = MQ below (va_G1 (some (.long r_)) (fun t => PIC D clsA G dsc ad (sgX9_mean_p3 σ w_aI1162) t.heap) A) args s 0 0 A) (hP : PIC D clsA G dsc ad σ H) (hS : va_S A s.heap H locs) (hl : lv_has ls 5 [(0, .ref (ad 1448))]) : W p l e rmX9_mean_p3 s m args below meth c0 H locs 0 0 Q (F0 m 0 ls []) := by
  obtain ⟨⟨hx, hb, hml, hown, hts⟩, hr, hlk⟩ := id E
  have hP := hP.to (sgX9_mean_p3_self σ).symm
  unfold xo_X9_mean_p3 at hf
  refine lv_lconst hx hb dX9_mean_0 lc_0 ?_
  refine lv_lstore_n (lv' := [(1, .long 0), (0, .ref (ad 1448))]) hx hb dX9_mean_1 rfl hl (by decide) rfl (fun ls hl => ?_)
  refine lv_iconst hx hb dX9_mean_2 ic_0 ?_
  refine lv_istore_n (lv' := [(3, .int 0), (1, .long 0), (0, .ref (ad 1448))]) hx hb dX9_mean_3 rfl hl (by decide) rfl (fun ls hl => ?_)
  have LP4 : ∀ (st4 : Int64 × Int32 × (Nat → Int32)) (ex4 : ((Nat → Int32)) ⊕ (Int64 × (Nat → Int32))), loop (xo_X9_mean_p3_L4 (σ.1 2008) (σ.1 2012) (σ.1 2013) (σ.1 2027) (σ.1 2032) (σ.2.2.1 1170) (σ.2.2.1 2037) (σ.2.2.1 2043) (σ.2.2.2.1 1140) nr nw (fun k => σ.1 (6000 + 16 * k + 2)) (fun k => σ.1 (6000 + 16 * k + 5)) (fun k => σ.1 (6000 + 16 * k + 6)) (fun k => σ.1 (8000 + 16 * k + 1)) (fun k => σ.1 (8000 + 16 * k + 2)) (fun k => σ.2.2.1 (4000 + 16 * k))) st4 = some ex4 → ∀ (H : Heap) (locs : List Loc), PIC D clsA G dsc ad (sgX9_mean_p3 σ (st4.2.2)) H → va_S A s.heap H locs → ∀ (ls : Array Slot), lv_has ls 5 [(0, .ref (ad 1448)), (1, .long (st4.1)), (3, .int (st4.2.1))] → (∀ (a18 : Nat → Int32), ex4 = (.inl a18) → ∀ (H : Heap) (locs : List Loc), PIC D clsA G dsc ad (sgX9_mean_p3 σ a18) H → va_S A s.heap H locs → ∀ (ls : Array Slot), lv_has ls 5 [] → W p l e rmX9_mean_p3 s m args below meth c0 H locs 0 0 Q (F0 m 52 ls [])) → (∀ (y19 : Int64) (a20 : Nat → Int32), ex4 = (.inr (y19, a20)) → ∀ (H : Heap) (locs : List Loc), PIC D clsA G dsc ad (sgX9_mean_p3 σ a20) H → va_S A s.heap H locs → ∀ (ls : Array Slot), lv_has ls 5 [(1, .long y19)] → W p l e rmX9_mean_p3 s m args below meth c0 H locs 0 0 Q (F0 m 81 ls [])) → W p l e rmX9_mean_p3 s m args below meth c0 H locs 0 0 Q (F0 m 4 ls []) := by
    refine loop_P (fun st4 ex4 o4 hf ih4 hx4 => ?_)
    obtain ⟨y1, y2, a3⟩ := st4
    intro H locs (hP : PIC D clsA G dsc ad (sgX9_mean_p3 σ a3) H) hS ls (hl : lv_has ls 5 [(0, .ref (ad 1448)), (1, .long y1), (3, .int y2)]) KE4_0 KE4_1
    dsimp only [xo_X9_mean_p3_L4] at hf
    refine lv_iload_n hx hb dX9_mean_4 rfl (lv_at hl 2 rfl) ?_
    refine lv_aload_n hx hb dX9_mean_5 rfl (lv_at hl 0 rfl) ?_
    refine gx_X9_3_1448 E hX hD hP dX9_mean_6 ?_
    refine gx_X9_15_1000 E hX hD hP dX9_mean_9 ?_
    obtain ⟨v4, u5, hf⟩ := bdP hf
    refine cx_X9_60_X3_worlds E hX hD hP hS hA (kxX3_worlds l D G hD sgX9_mean_p3_rzI2027 u5) ⟨rfl, rfl⟩ ⟨Nat.le_of_ble_eq_true rfl, Nat.le_of_ble_eq_true rfl⟩ ⟨Nat.zero_le _, Nat.zero_le _⟩ hl.1 (Nat.le_of_ble_eq_true rfl) dX9_mean_12 (fun H locs hP hS => ?_)
    refine lv_icmp_ge (tgt := 81) hx hb dX9_mean_15 (by decide) (fun c6 => ?_) (fun c6 => ?_)
    · have hf := ifT c6 hf
      exact KE4_1 _ _ (hx4 _ (Option.some.inj hf).symm).symm H locs hP hS ls (lv_sub hl [1] rfl)
    · have hf := ifF c6 hf
      refine lv_aload_n hx hb dX9_mean_18 rfl (lv_at hl 0 rfl) ?_
      refine gx_X9_3_1448 E hX hD hP dX9_mean_19 ?_
      refine gx_X9_64_1000 E hX hD hP dX9_mean_22 ?_
      refine gx_X9_68_1050 E hX hD hP dX9_mean_25 ?_
      refine lv_iload_n hx hb dX9_mean_28 rfl (lv_at hl 2 rfl) ?_
      obtain ⟨v7, hv7, hf⟩ := bdP hf
      refine p_lald hx hb hX.1 hP (hD.1 _ _ dX_1140) sgX9_mean_p3_raL1140 hv7 dX9_mean_29 ?_
      refine lv_lconst hx hb dX9_mean_30 lc_0 ?_
      refine W.lcmp hx hb dX9_mean_31 ?_
      have J75 : ∀ (y8 : Int64) (a9 : Nat → Int32), xo_X9_mean_p3_J75 y2 y8 a9 = some o4 → ∀ (H : Heap) (locs : List Loc), PIC D clsA G dsc ad (sgX9_mean_p3 σ a9) H → va_S A s.heap H locs → ∀ (ls : Array Slot), lv_has ls 5 [(0, .ref (ad 1448)), (1, .long y8), (3, .int y2)] → W p l e rmX9_mean_p3 s m args below meth c0 H locs 0 0 Q (F0 m 75 ls []) := by
        intro y8 a9 hf H locs hP hS ls hl
        unfold xo_X9_mean_p3_J75 at hf
        obtain ⟨v10, hv10, hf⟩ := bdP hf
        refine lv_iinc (v := v10) (lv' := [(3, .int v10), (0, .ref (ad 1448)), (1, .long y8)]) hx hb dX9_mean_75 hl (k := 2) rfl (Option.some.inj hv10) (by decide) rfl (fun ls hl => ?_)
        refine lv_goto (tgt := 4) hx hb dX9_mean_78 (by decide) ?_
        exact ih4 _ (Option.some.inj hf).symm H locs hP hS ls (lv_sub hl [1, 2, 0] rfl) KE4_0 KE4_1
      refine lv_if_ne (tgt := 38) hx hb dX9_mean_32 (by decide) (fun c11 => ?_) (fun c11 => ?_)
      · have hf := ifF (mt (lgc_eq _ _).mpr c11) hf
        refine lv_aload_n hx hb dX9_mean_38 rfl (lv_at hl 0 rfl) ?_
        refine lv_iload_n hx hb dX9_mean_39 rfl (lv_at hl 2 rfl) ?_
        obtain ⟨⟨v12, a13⟩, u14, hf⟩ := bdP hf
        dsimp only at hf
        refine cx_X9_74_X9_hours_p3 E hX hD hP hS hA (kxX9_hours_p3 l D G hD sgX9_mean_p3_rzI2008 sgX9_mean_p3_rzI2012 sgX9_mean_p3_rzI2013 sgX9_mean_p3_rzI2027 sgX9_mean_p3_rzI2032 sgX9_mean_p3_raI1162 sgX9_mean_p3_raI1170 sgX9_mean_p3_raI2037 sgX9_mean_p3_raI2043 rfl rfl sgX9_mean_p3_rpR2 sgX9_mean_p3_rpR5 sgX9_mean_p3_rpR6 sgX9_mean_p3_rpW1 sgX9_mean_p3_rpW2 sgX9_mean_p3_rgG0 u14) ⟨rfl, rfl⟩ ⟨Nat.le_of_ble_eq_true rfl, Nat.le_of_ble_eq_true rfl⟩ ⟨Nat.zero_le _, Nat.zero_le _⟩ hl.1 (Nat.le_of_ble_eq_true rfl) dX9_mean_40 (fun H locs hP hS => ?_)
        rw [sgX9_mean_p3_aI1162] at hP
        refine lv_istore (lv' := [(4, .int v12), (0, .ref (ad 1448)), (1, .long y1), (3, .int y2)]) hx hb dX9_mean_43 hl (by decide) rfl (fun ls hl => ?_)
        refine lv_iload hx hb dX9_mean_45 (lv_at hl 0 rfl) ?_
        refine lv_bipush hx hb dX9_mean_47 bp_m2 ?_
        refine lv_icmp_ne (tgt := 56) hx hb dX9_mean_49 (by decide) (fun c15 => ?_) (fun c15 => ?_)
        · have hf := ifF c15 hf
          refine lv_lload_n hx hb dX9_mean_56 rfl (lv_at hl 2 rfl) ?_
          refine lv_aload_n hx hb dX9_mean_57 rfl (lv_at hl 1 rfl) ?_
          refine gx_X9_3_1448 E hX hD hP dX9_mean_58 ?_
          refine gx_X9_64_1000 E hX hD hP dX9_mean_61 ?_
          refine gx_X9_68_1050 E hX hD hP dX9_mean_64 ?_
          refine lv_iload_n hx hb dX9_mean_67 rfl (lv_at hl 3 rfl) ?_
          obtain ⟨v16, hv16, hf⟩ := bdP hf
          refine p_lald hx hb hX.1 hP (hD.1 _ _ dX_1140) sgX9_mean_p3_raL1140 hv16 dX9_mean_68 ?_
          refine lv_iload hx hb dX9_mean_69 (lv_at hl 0 rfl) ?_
          refine lv_i2l hx hb dX9_mean_71 rfl ?_
          refine lv_lmul hx hb dX9_mean_72 ?_
          refine lv_ladd hx hb dX9_mean_73 ?_
          obtain ⟨v17, hv17, hf⟩ := bdP hf
          refine nm_l (Option.some.inj hv17) ?_
          refine lv_lstore_n (lv' := [(1, .long v17), (4, .int v12), (0, .ref (ad 1448)), (3, .int y2)]) hx hb dX9_mean_74 rfl hl (by decide) rfl (fun ls hl => ?_)
          exact J75 v17 a13 hf H locs hP hS ls (lv_sub hl [2, 0, 3] rfl)
        · have hf := ifT c15 hf
          exact KE4_0 _ (hx4 _ (Option.some.inj hf).symm).symm H locs hP hS ls (lv_sub hl [] rfl)
      · have hf := ifT ((lgc_eq _ _).mp c11) hf
        refine lv_goto (tgt := 75) hx hb dX9_mean_35 (by decide) ?_
        exact J75 y1 a3 hf H locs hP hS ls (lv_sub hl [0, 1, 2] rfl)
  obtain ⟨ex4, hlp4, hf⟩ := bdP hf
  refine LP4 (0, 0, (σ.2.2.1 1162)) ex4 hlp4 H locs hP hS ls (lv_sub hl [2, 1, 0] rfl) ?_ ?_
  · intro a18 hex4 H locs hP hS ls hl
    subst ex4
    dsimp only [sE_l, sE_r] at hf
    refine lv_ldc2 hx hb hown (hts _ q1345) dX9_mean_52 ?_
    cases hf
    rw [hQ]; exact g_lret hx hb hr hlk hP hS dX9_mean_55
  · intro y19 a20 hex4 H locs hP hS ls hl
    subst ex4
    dsimp only [sE_l, sE_r] at hf
    refine lv_lload_n hx hb dX9_mean_81 rfl (lv_at hl 0 rfl) ?_
    cases hf
    rw [hQ]; exact g_lret hx hb hr hlk hP hS dX9_mean_82
theorem kxX9_mean_p3 (l : Launch) (D : va_G) (G : Nat → ClassId) {dsc : Nat → Option Dsc} {ad : Nat → Nat} {σ : Sto} {nr nw nu : Nat} (hD : XD dsc nr nw nu) {r_ : Int64} {w_aI1162 : Nat → Int32} {z_L_places : Int32} (e_zI2008 : σ.1 2008 = z_L_places) {z_L_from : Int32} (e_zI2012 : σ.1 2012 = z_L_from) {z_L_to : Int32} (e_zI2013 : σ.1 2013 = z_L_to) {z_Ld_size : Int32} (e_zI2027 : σ.1 2027 = z_Ld_size) {z_Lw_size : Int32} (e_zI2032 : σ.1 2032 = z_Lw_size) {a_p3_far : Nat → Int32} (e_aI1162 : σ.2.2.1 1162 = a_p3_far) {a_UNIT : Nat → Int32} (e_aI1170 : σ.2.2.1 1170 = a_UNIT) {a_Lw_data : Nat → Int32} (e_aI2037 : σ.2.2.1 2037 = a_Lw_data) {a_L_seen : Nat → Int32} (e_aI2043 : σ.2.2.1 2043 = a_L_seen) {a_W_world : Nat → Int64} (e_aL1140 : σ.2.2.2.1 1140 = a_W_world) {n_r : Nat} (e_nN0 : nr = n_r) {n_w : Nat} (e_nN1 : nw = n_w) {p_road_hours : Nat → Int32} (e_pR2 : (fun k => σ.1 (6000 + 16 * k + 2)) = p_road_hours) {p_road_wait : Nat → Int32} (e_pR5 : (fun k => σ.1 (6000 + 16 * k + 5)) = p_road_wait) {p_road_number : Nat → Int32} (e_pR6 : (fun k => σ.1 (6000 + 16 * k + 6)) = p_road_number) {p_word_road : Nat → Int32} (e_pW1 : (fun k => σ.1 (8000 + 16 * k + 1)) = p_word_road) {p_word_hours : Nat → Int32} (e_pW2 : (fun k => σ.1 (8000 + 16 * k + 2)) = p_word_hours) {g_grid : Nat → Nat → Int32} (e_gG0 : (fun k => σ.2.2.1 (4000 + 16 * k)) = g_grid) (hf : xo_X9_mean_p3 z_L_places z_L_from z_L_to z_Ld_size z_Lw_size a_p3_far a_UNIT a_Lw_data a_L_seen a_W_world n_r n_w p_road_hours p_road_wait p_road_number p_word_road p_word_hours g_grid = some (r_, w_aI1162)) : CtG l D G dsc ad yX9_mean (ws_ yX9_mean cX9_mean 5 (Option.some Jvm.ClassFile.FieldType.long)) rmX9_mean_p3 [.ref (ad 1448)] σ (some (.long r_)) (aI σ 1162 w_aI1162) := by
  subst e_zI2008
  subst e_zI2012
  subst e_zI2013
  subst e_zI2027
  subst e_zI2032
  subst e_aI1162
  subst e_aI1170
  subst e_aI2037
  subst e_aI2043
  subst e_aL1140
  subst e_nN0
  subst e_nN1
  subst e_pR2
  subst e_pR5
  subst e_pR6
  subst e_pW1
  subst e_pW2
  subst e_gG0
  exact p_ctG (by decide +kernel) (Nat.le_of_ble_eq_true rfl) (fun p e s m below meth c0 ls A E hP hX hA hS hl => wkX9_mean_p3 E hX hD hA hf rfl hP hS hl)
theorem cx_X9_74_X9_hours_p4 {rm : Room} {σ1 : Sto} {x1 : Int32} {r : Int32} (E : EN p s m args meth c0 RX9 cc nL ret) (hX : KX D G ad A s s.heap) (hD : XD dsc nr nw nu) (hP : PIC D clsA G dsc ad σ H) (hS : va_S A s.heap H locs) (hA : ∀ q, PA dsc ad s.heap.size q → A q) (hM : CtG l D G dsc ad yX9_hours (ws_ yX9_hours cX9_hours 9 (Option.some Jvm.ClassFile.FieldType.int)) rm [.ref (ad 1464), .int x1] σ (some (.int r)) σ1) (hz : rm.cells = 0 ∧ rm.slots = 0) (hR : rm.frames + 1 ≤ R.frames ∧ 8 + (9 + 11) + rm.locals ≤ R.locals) (hcs : cells ≤ R.cells ∧ slots ≤ R.slots) (hsz : ls.size = nL) (hW : (rest.map fun v => v.category).sum ≤ 8) (hdg : decode cc pc = .ok (.invokevirtual 74, 3)) (kk : ∀ (H1 : Heap) (locs1 : List Loc), PIC D clsA G dsc ad σ1 H1 → va_S A s.heap H1 locs1 → W p l e R s m args below meth c0 H1 locs1 cells slots Q (F0 m (pc + 3) ls (.int r :: rest))) : W p l e R s m args below meth c0 H locs cells slots Q (F0 m pc ls (.int x1 :: .ref (ad 1464) :: rest)) :=
  p_gU (As := [.int x1]) (rest := rest) E.1 hX hP hS hA hM (cw_any (owner := "ShutPasses$Plan") (x := ⟨"ShutPasses$Plan", "hours", "(I)I"⟩) (y := yX9_hours) (C := "ShutPasses$Fear") (index := 74) (own := RX9) 1 E.1.2.2.2.2 (lw_meth q1283) rfl hz.1 hz.2 (E.1.2.2.2.2 _ q1275) (E.1.2.2.2.2 _ q1277) (va_Decl.of (E.1.2.2.2.2 _ q1276) (E.1.2.2.2.2 _ q1283)) (E.1.2.2.2.2 _ q1280) (E.1.2.2.2.2 _ q1276) (E.1.2.2.2.2 _ q135) (by decide +kernel) hR) (hD.1 _ _ dX_1464) rfl rfl rfl hsz rfl hW hdg hcs kk
/-! X9_mean_p4 ()J -/
def sgX9_mean_p4 (σ : Sto) (w0 : Nat → Int32) : Sto := aI σ 1163 w0
theorem sgX9_mean_p4_self (σ : Sto) : sgX9_mean_p4 σ (σ.2.2.1 1163) = σ := by
  unfold sgX9_mean_p4
  simp only [zI_self, zL_self, aI_self, aL_self]
theorem sgX9_mean_p4_aI1163 {σ : Sto} {w0 : Nat → Int32} {g : Nat → Int32} : aI (sgX9_mean_p4 σ w0) 1163 g = sgX9_mean_p4 σ g := aI_aI _ 1163 _ _
theorem sgX9_mean_p4_rzI2008 {σ : Sto} {w0 : Nat → Int32} : (sgX9_mean_p4 σ w0).1 2008 = σ.1 2008 := rfl
theorem sgX9_mean_p4_rzI2012 {σ : Sto} {w0 : Nat → Int32} : (sgX9_mean_p4 σ w0).1 2012 = σ.1 2012 := rfl
theorem sgX9_mean_p4_rzI2013 {σ : Sto} {w0 : Nat → Int32} : (sgX9_mean_p4 σ w0).1 2013 = σ.1 2013 := rfl
theorem sgX9_mean_p4_rzI2027 {σ : Sto} {w0 : Nat → Int32} : (sgX9_mean_p4 σ w0).1 2027 = σ.1 2027 := rfl
theorem sgX9_mean_p4_rzI2032 {σ : Sto} {w0 : Nat → Int32} : (sgX9_mean_p4 σ w0).1 2032 = σ.1 2032 := rfl
theorem sgX9_mean_p4_raI1163 {σ : Sto} {w0 : Nat → Int32} : (sgX9_mean_p4 σ w0).2.2.1 1163 = w0 := rfl
theorem sgX9_mean_p4_raI1170 {σ : Sto} {w0 : Nat → Int32} : (sgX9_mean_p4 σ w0).2.2.1 1170 = σ.2.2.1 1170 := rfl
theorem sgX9_mean_p4_raI2037 {σ : Sto} {w0 : Nat → Int32} : (sgX9_mean_p4 σ w0).2.2.1 2037 = σ.2.2.1 2037 := rfl
theorem sgX9_mean_p4_raI2043 {σ : Sto} {w0 : Nat → Int32} : (sgX9_mean_p4 σ w0).2.2.1 2043 = σ.2.2.1 2043 := rfl
theorem sgX9_mean_p4_raL1140 {σ : Sto} {w0 : Nat → Int32} : (sgX9_mean_p4 σ w0).2.2.2.1 1140 = σ.2.2.2.1 1140 := rfl
theorem sgX9_mean_p4_rpR2 {σ : Sto} {w0 : Nat → Int32} : (fun k => (sgX9_mean_p4 σ w0).1 (6000 + 16 * k + 2)) = (fun k => σ.1 (6000 + 16 * k + 2)) := by
  funext k
  unfold sgX9_mean_p4
  dsimp only [zI, zL, aI, aL]
  repeat rw [if_neg (by omega)]
theorem sgX9_mean_p4_rpR5 {σ : Sto} {w0 : Nat → Int32} : (fun k => (sgX9_mean_p4 σ w0).1 (6000 + 16 * k + 5)) = (fun k => σ.1 (6000 + 16 * k + 5)) := by
  funext k
  unfold sgX9_mean_p4
  dsimp only [zI, zL, aI, aL]
  repeat rw [if_neg (by omega)]
theorem sgX9_mean_p4_rpR6 {σ : Sto} {w0 : Nat → Int32} : (fun k => (sgX9_mean_p4 σ w0).1 (6000 + 16 * k + 6)) = (fun k => σ.1 (6000 + 16 * k + 6)) := by
  funext k
  unfold sgX9_mean_p4
  dsimp only [zI, zL, aI, aL]
  repeat rw [if_neg (by omega)]
theorem sgX9_mean_p4_rpW1 {σ : Sto} {w0 : Nat → Int32} : (fun k => (sgX9_mean_p4 σ w0).1 (8000 + 16 * k + 1)) = (fun k => σ.1 (8000 + 16 * k + 1)) := by
  funext k
  unfold sgX9_mean_p4
  dsimp only [zI, zL, aI, aL]
  repeat rw [if_neg (by omega)]
theorem sgX9_mean_p4_rpW2 {σ : Sto} {w0 : Nat → Int32} : (fun k => (sgX9_mean_p4 σ w0).1 (8000 + 16 * k + 2)) = (fun k => σ.1 (8000 + 16 * k + 2)) := by
  funext k
  unfold sgX9_mean_p4
  dsimp only [zI, zL, aI, aL]
  repeat rw [if_neg (by omega)]
theorem sgX9_mean_p4_rgG0 {σ : Sto} {w0 : Nat → Int32} : (fun k => (sgX9_mean_p4 σ w0).2.2.1 (4000 + 16 * k)) = (fun k => σ.2.2.1 (4000 + 16 * k)) := by
  funext k
  unfold sgX9_mean_p4
  dsimp only [zI, zL, aI, aL]
  repeat rw [if_neg (by omega)]
abbrev rmX9_mean_p4 : Room := { frames := 5, cells := 0, slots := 0, locals := 124 }
set_option maxHeartbeats 4000000 in
theorem wkX9_mean_p4 {r_ : Int64} {w_aI1163 : Nat → Int32} (E : EN p s m args meth c0 RX9 cX9_mean 5 (Option.some Jvm.ClassFile.FieldType.long)) (hX : KX D G ad A s s.heap) (hD : XD dsc nr nw nu) (hA : ∀ q, PA dsc ad s.heap.size q → A q) (hf : xo_X9_mean_p4 (σ.1 2008) (σ.1 2012) (σ.1 2013) (σ.1 2027) (σ.1 2032) (σ.2.2.1 1163) (σ.2.2.1 1170) (σ.2.2.1 2037) (σ.2.2.1 2043) (σ.2.2.2.1 1140) nr nw (fun k => σ.1 (6000 + 16 * k + 2)) (fun k => σ.1 (6000 + 16 * k + 5)) (fun k => σ.1 (6000 + 16 * k + 6)) (fun k => σ.1 (8000 + 16 * k + 1)) (fun k => σ.1 (8000 + 16 * k + 2)) (fun k => σ.2.2.1 (4000 + 16 * k)) = some (r_, w_aI1163)) (hQ : Q = MQ below (va_G1 (some (.long r_)) (fun t => PIC D clsA G dsc ad (sgX9_mean_p4 σ w_aI1163) t.heap) A) args s 0 0 A) (hP : PIC D clsA G dsc ad σ H) (hS : va_S A s.heap H locs) (hl : lv_has ls 5 [(0, .ref (ad 1464))]) : W p l e rmX9_mean_p4 s m args below meth c0 H locs 0 0 Q (F0 m 0 ls []) := by
  obtain ⟨⟨hx, hb, hml, hown, hts⟩, hr, hlk⟩ := id E
  have hP := hP.to (sgX9_mean_p4_self σ).symm
  unfold xo_X9_mean_p4 at hf
  refine lv_lconst hx hb dX9_mean_0 lc_0 ?_
  refine lv_lstore_n (lv' := [(1, .long 0), (0, .ref (ad 1464))]) hx hb dX9_mean_1 rfl hl (by decide) rfl (fun ls hl => ?_)
  refine lv_iconst hx hb dX9_mean_2 ic_0 ?_
  refine lv_istore_n (lv' := [(3, .int 0), (1, .long 0), (0, .ref (ad 1464))]) hx hb dX9_mean_3 rfl hl (by decide) rfl (fun ls hl => ?_)
  have LP4 : ∀ (st4 : Int64 × Int32 × (Nat → Int32)) (ex4 : ((Nat → Int32)) ⊕ (Int64 × (Nat → Int32))), loop (xo_X9_mean_p4_L4 (σ.1 2008) (σ.1 2012) (σ.1 2013) (σ.1 2027) (σ.1 2032) (σ.2.2.1 1170) (σ.2.2.1 2037) (σ.2.2.1 2043) (σ.2.2.2.1 1140) nr nw (fun k => σ.1 (6000 + 16 * k + 2)) (fun k => σ.1 (6000 + 16 * k + 5)) (fun k => σ.1 (6000 + 16 * k + 6)) (fun k => σ.1 (8000 + 16 * k + 1)) (fun k => σ.1 (8000 + 16 * k + 2)) (fun k => σ.2.2.1 (4000 + 16 * k))) st4 = some ex4 → ∀ (H : Heap) (locs : List Loc), PIC D clsA G dsc ad (sgX9_mean_p4 σ (st4.2.2)) H → va_S A s.heap H locs → ∀ (ls : Array Slot), lv_has ls 5 [(0, .ref (ad 1464)), (1, .long (st4.1)), (3, .int (st4.2.1))] → (∀ (a18 : Nat → Int32), ex4 = (.inl a18) → ∀ (H : Heap) (locs : List Loc), PIC D clsA G dsc ad (sgX9_mean_p4 σ a18) H → va_S A s.heap H locs → ∀ (ls : Array Slot), lv_has ls 5 [] → W p l e rmX9_mean_p4 s m args below meth c0 H locs 0 0 Q (F0 m 52 ls [])) → (∀ (y19 : Int64) (a20 : Nat → Int32), ex4 = (.inr (y19, a20)) → ∀ (H : Heap) (locs : List Loc), PIC D clsA G dsc ad (sgX9_mean_p4 σ a20) H → va_S A s.heap H locs → ∀ (ls : Array Slot), lv_has ls 5 [(1, .long y19)] → W p l e rmX9_mean_p4 s m args below meth c0 H locs 0 0 Q (F0 m 81 ls [])) → W p l e rmX9_mean_p4 s m args below meth c0 H locs 0 0 Q (F0 m 4 ls []) := by
    refine loop_P (fun st4 ex4 o4 hf ih4 hx4 => ?_)
    obtain ⟨y1, y2, a3⟩ := st4
    intro H locs (hP : PIC D clsA G dsc ad (sgX9_mean_p4 σ a3) H) hS ls (hl : lv_has ls 5 [(0, .ref (ad 1464)), (1, .long y1), (3, .int y2)]) KE4_0 KE4_1
    dsimp only [xo_X9_mean_p4_L4] at hf
    refine lv_iload_n hx hb dX9_mean_4 rfl (lv_at hl 2 rfl) ?_
    refine lv_aload_n hx hb dX9_mean_5 rfl (lv_at hl 0 rfl) ?_
    refine gx_X9_3_1464 E hX hD hP dX9_mean_6 ?_
    refine gx_X9_15_1000 E hX hD hP dX9_mean_9 ?_
    obtain ⟨v4, u5, hf⟩ := bdP hf
    refine cx_X9_60_X3_worlds E hX hD hP hS hA (kxX3_worlds l D G hD sgX9_mean_p4_rzI2027 u5) ⟨rfl, rfl⟩ ⟨Nat.le_of_ble_eq_true rfl, Nat.le_of_ble_eq_true rfl⟩ ⟨Nat.zero_le _, Nat.zero_le _⟩ hl.1 (Nat.le_of_ble_eq_true rfl) dX9_mean_12 (fun H locs hP hS => ?_)
    refine lv_icmp_ge (tgt := 81) hx hb dX9_mean_15 (by decide) (fun c6 => ?_) (fun c6 => ?_)
    · have hf := ifT c6 hf
      exact KE4_1 _ _ (hx4 _ (Option.some.inj hf).symm).symm H locs hP hS ls (lv_sub hl [1] rfl)
    · have hf := ifF c6 hf
      refine lv_aload_n hx hb dX9_mean_18 rfl (lv_at hl 0 rfl) ?_
      refine gx_X9_3_1464 E hX hD hP dX9_mean_19 ?_
      refine gx_X9_64_1000 E hX hD hP dX9_mean_22 ?_
      refine gx_X9_68_1050 E hX hD hP dX9_mean_25 ?_
      refine lv_iload_n hx hb dX9_mean_28 rfl (lv_at hl 2 rfl) ?_
      obtain ⟨v7, hv7, hf⟩ := bdP hf
      refine p_lald hx hb hX.1 hP (hD.1 _ _ dX_1140) sgX9_mean_p4_raL1140 hv7 dX9_mean_29 ?_
      refine lv_lconst hx hb dX9_mean_30 lc_0 ?_
      refine W.lcmp hx hb dX9_mean_31 ?_
      have J75 : ∀ (y8 : Int64) (a9 : Nat → Int32), xo_X9_mean_p4_J75 y2 y8 a9 = some o4 → ∀ (H : Heap) (locs : List Loc), PIC D clsA G dsc ad (sgX9_mean_p4 σ a9) H → va_S A s.heap H locs → ∀ (ls : Array Slot), lv_has ls 5 [(0, .ref (ad 1464)), (1, .long y8), (3, .int y2)] → W p l e rmX9_mean_p4 s m args below meth c0 H locs 0 0 Q (F0 m 75 ls []) := by
        intro y8 a9 hf H locs hP hS ls hl
        unfold xo_X9_mean_p4_J75 at hf
        obtain ⟨v10, hv10, hf⟩ := bdP hf
        refine lv_iinc (v := v10) (lv' := [(3, .int v10), (0, .ref (ad 1464)), (1, .long y8)]) hx hb dX9_mean_75 hl (k := 2) rfl (Option.some.inj hv10) (by decide) rfl (fun ls hl => ?_)
        refine lv_goto (tgt := 4) hx hb dX9_mean_78 (by decide) ?_
        exact ih4 _ (Option.some.inj hf).symm H locs hP hS ls (lv_sub hl [1, 2, 0] rfl) KE4_0 KE4_1
      refine lv_if_ne (tgt := 38) hx hb dX9_mean_32 (by decide) (fun c11 => ?_) (fun c11 => ?_)
      · have hf := ifF (mt (lgc_eq _ _).mpr c11) hf
        refine lv_aload_n hx hb dX9_mean_38 rfl (lv_at hl 0 rfl) ?_
        refine lv_iload_n hx hb dX9_mean_39 rfl (lv_at hl 2 rfl) ?_
        obtain ⟨⟨v12, a13⟩, u14, hf⟩ := bdP hf
        dsimp only at hf
        refine cx_X9_74_X9_hours_p4 E hX hD hP hS hA (kxX9_hours_p4 l D G hD sgX9_mean_p4_rzI2008 sgX9_mean_p4_rzI2012 sgX9_mean_p4_rzI2013 sgX9_mean_p4_rzI2027 sgX9_mean_p4_rzI2032 sgX9_mean_p4_raI1163 sgX9_mean_p4_raI1170 sgX9_mean_p4_raI2037 sgX9_mean_p4_raI2043 rfl rfl sgX9_mean_p4_rpR2 sgX9_mean_p4_rpR5 sgX9_mean_p4_rpR6 sgX9_mean_p4_rpW1 sgX9_mean_p4_rpW2 sgX9_mean_p4_rgG0 u14) ⟨rfl, rfl⟩ ⟨Nat.le_of_ble_eq_true rfl, Nat.le_of_ble_eq_true rfl⟩ ⟨Nat.zero_le _, Nat.zero_le _⟩ hl.1 (Nat.le_of_ble_eq_true rfl) dX9_mean_40 (fun H locs hP hS => ?_)
        rw [sgX9_mean_p4_aI1163] at hP
        refine lv_istore (lv' := [(4, .int v12), (0, .ref (ad 1464)), (1, .long y1), (3, .int y2)]) hx hb dX9_mean_43 hl (by decide) rfl (fun ls hl => ?_)
        refine lv_iload hx hb dX9_mean_45 (lv_at hl 0 rfl) ?_
        refine lv_bipush hx hb dX9_mean_47 bp_m2 ?_
        refine lv_icmp_ne (tgt := 56) hx hb dX9_mean_49 (by decide) (fun c15 => ?_) (fun c15 => ?_)
        · have hf := ifF c15 hf
          refine lv_lload_n hx hb dX9_mean_56 rfl (lv_at hl 2 rfl) ?_
          refine lv_aload_n hx hb dX9_mean_57 rfl (lv_at hl 1 rfl) ?_
          refine gx_X9_3_1464 E hX hD hP dX9_mean_58 ?_
          refine gx_X9_64_1000 E hX hD hP dX9_mean_61 ?_
          refine gx_X9_68_1050 E hX hD hP dX9_mean_64 ?_
          refine lv_iload_n hx hb dX9_mean_67 rfl (lv_at hl 3 rfl) ?_
          obtain ⟨v16, hv16, hf⟩ := bdP hf
          refine p_lald hx hb hX.1 hP (hD.1 _ _ dX_1140) sgX9_mean_p4_raL1140 hv16 dX9_mean_68 ?_
          refine lv_iload hx hb dX9_mean_69 (lv_at hl 0 rfl) ?_
          refine lv_i2l hx hb dX9_mean_71 rfl ?_
          refine lv_lmul hx hb dX9_mean_72 ?_
          refine lv_ladd hx hb dX9_mean_73 ?_
          obtain ⟨v17, hv17, hf⟩ := bdP hf
          refine nm_l (Option.some.inj hv17) ?_
          refine lv_lstore_n (lv' := [(1, .long v17), (4, .int v12), (0, .ref (ad 1464)), (3, .int y2)]) hx hb dX9_mean_74 rfl hl (by decide) rfl (fun ls hl => ?_)
          exact J75 v17 a13 hf H locs hP hS ls (lv_sub hl [2, 0, 3] rfl)
        · have hf := ifT c15 hf
          exact KE4_0 _ (hx4 _ (Option.some.inj hf).symm).symm H locs hP hS ls (lv_sub hl [] rfl)
      · have hf := ifT ((lgc_eq _ _).mp c11) hf
        refine lv_goto (tgt := 75) hx hb dX9_mean_35 (by decide) ?_
        exact J75 y1 a3 hf H locs hP hS ls (lv_sub hl [0, 1, 2] rfl)
  obtain ⟨ex4, hlp4, hf⟩ := bdP hf
  refine LP4 (0, 0, (σ.2.2.1 1163)) ex4 hlp4 H locs hP hS ls (lv_sub hl [2, 1, 0] rfl) ?_ ?_
  · intro a18 hex4 H locs hP hS ls hl
    subst ex4
    dsimp only [sE_l, sE_r] at hf
    refine lv_ldc2 hx hb hown (hts _ q1345) dX9_mean_52 ?_
    cases hf
    rw [hQ]; exact g_lret hx hb hr hlk hP hS dX9_mean_55
  · intro y19 a20 hex4 H locs hP hS ls hl
    subst ex4
    dsimp only [sE_l, sE_r] at hf
    refine lv_lload_n hx hb dX9_mean_81 rfl (lv_at hl 0 rfl) ?_
    cases hf
    rw [hQ]; exact g_lret hx hb hr hlk hP hS dX9_mean_82
theorem kxX9_mean_p4 (l : Launch) (D : va_G) (G : Nat → ClassId) {dsc : Nat → Option Dsc} {ad : Nat → Nat} {σ : Sto} {nr nw nu : Nat} (hD : XD dsc nr nw nu) {r_ : Int64} {w_aI1163 : Nat → Int32} {z_L_places : Int32} (e_zI2008 : σ.1 2008 = z_L_places) {z_L_from : Int32} (e_zI2012 : σ.1 2012 = z_L_from) {z_L_to : Int32} (e_zI2013 : σ.1 2013 = z_L_to) {z_Ld_size : Int32} (e_zI2027 : σ.1 2027 = z_Ld_size) {z_Lw_size : Int32} (e_zI2032 : σ.1 2032 = z_Lw_size) {a_p4_far : Nat → Int32} (e_aI1163 : σ.2.2.1 1163 = a_p4_far) {a_UNIT : Nat → Int32} (e_aI1170 : σ.2.2.1 1170 = a_UNIT) {a_Lw_data : Nat → Int32} (e_aI2037 : σ.2.2.1 2037 = a_Lw_data) {a_L_seen : Nat → Int32} (e_aI2043 : σ.2.2.1 2043 = a_L_seen) {a_W_world : Nat → Int64} (e_aL1140 : σ.2.2.2.1 1140 = a_W_world) {n_r : Nat} (e_nN0 : nr = n_r) {n_w : Nat} (e_nN1 : nw = n_w) {p_road_hours : Nat → Int32} (e_pR2 : (fun k => σ.1 (6000 + 16 * k + 2)) = p_road_hours) {p_road_wait : Nat → Int32} (e_pR5 : (fun k => σ.1 (6000 + 16 * k + 5)) = p_road_wait) {p_road_number : Nat → Int32} (e_pR6 : (fun k => σ.1 (6000 + 16 * k + 6)) = p_road_number) {p_word_road : Nat → Int32} (e_pW1 : (fun k => σ.1 (8000 + 16 * k + 1)) = p_word_road) {p_word_hours : Nat → Int32} (e_pW2 : (fun k => σ.1 (8000 + 16 * k + 2)) = p_word_hours) {g_grid : Nat → Nat → Int32} (e_gG0 : (fun k => σ.2.2.1 (4000 + 16 * k)) = g_grid) (hf : xo_X9_mean_p4 z_L_places z_L_from z_L_to z_Ld_size z_Lw_size a_p4_far a_UNIT a_Lw_data a_L_seen a_W_world n_r n_w p_road_hours p_road_wait p_road_number p_word_road p_word_hours g_grid = some (r_, w_aI1163)) : CtG l D G dsc ad yX9_mean (ws_ yX9_mean cX9_mean 5 (Option.some Jvm.ClassFile.FieldType.long)) rmX9_mean_p4 [.ref (ad 1464)] σ (some (.long r_)) (aI σ 1163 w_aI1163) := by
  subst e_zI2008
  subst e_zI2012
  subst e_zI2013
  subst e_zI2027
  subst e_zI2032
  subst e_aI1163
  subst e_aI1170
  subst e_aI2037
  subst e_aI2043
  subst e_aL1140
  subst e_nN0
  subst e_nN1
  subst e_pR2
  subst e_pR5
  subst e_pR6
  subst e_pW1
  subst e_pW2
  subst e_gG0
  exact p_ctG (by decide +kernel) (Nat.le_of_ble_eq_true rfl) (fun p e s m below meth c0 ls A E hP hX hA hS hl => wkX9_mean_p4 E hX hD hA hf rfl hP hS hl)
end XWALK
