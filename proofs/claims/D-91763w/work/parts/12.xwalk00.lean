section XWALK
variable {p : Program} {l : Launch} {e : Env} {R : Room} {s : State} {m : MethodId} {args : Array Value} {below : List Frame} {meth : Method} {c0 : Code} {H : Heap} {locs : List Loc} {cells slots : Nat} {Q : State → Prop}
variable {cc : ByteArray} {nL : Nat} {ret : Option FieldType} {pc : Nat} {ls : Array Slot} {rest : List Value} {D : va_G} {A : Nat → Prop} {G : Nat → ClassId} {dsc : Nat → Option Dsc} {ad : Nat → Nat} {σ : Sto} {nr nw nu : Nat}
theorem gx_J2_48_2025 {v : Int32} (E : EN p s m args meth c0 RJ2 cc nL ret) (hX : KX D G ad A s s.heap) (hD : XD dsc nr nw nu) (hP : PIC D clsA G dsc ad σ H) (hv : σ.1 2027 = v) (hdg : decode cc pc = .ok (.getfield 48, 3)) (kk : W p l e R s m args below meth c0 H locs cells slots Q (F0 m (pc + 3) ls (.int v :: rest))) : W p l e R s m args below meth c0 H locs cells slots Q (F0 m pc ls (.ref (ad 2025) :: rest)) :=
  p_get E.1.1 E.1.2.1 E.1.2.2.2.2 in_J2 E.1.2.2.2.1 hX.1 hP (hD.1 _ _ dX_2025) rfl 2 (by decide) (E.1.2.2.2.2 _ q223) (fun _ h => h) rfl (congrArg Value.int hv) hdg kk
/-! J2_size_Ld ()I -/
abbrev rmJ2_size_Ld : Room := { frames := 0, cells := 0, slots := 0, locals := 0 }
set_option maxHeartbeats 4000000 in
theorem wkJ2_size_Ld {r_ : Int32} (E : EN p s m args meth c0 RJ2 cJ2_size 1 (Option.some Jvm.ClassFile.FieldType.int)) (hX : KX D G ad A s s.heap) (hD : XD dsc nr nw nu) (hA : ∀ q, PA dsc ad s.heap.size q → A q) (hf : xo_J2_size_Ld (σ.1 2027) = some r_) (hQ : Q = MQ below (va_G1 (some (.int r_)) (fun t => PIC D clsA G dsc ad σ t.heap) A) args s 0 0 A) (hP : PIC D clsA G dsc ad σ H) (hS : va_S A s.heap H locs) (hl : lv_has ls 1 [(0, .ref (ad 2025))]) : W p l e rmJ2_size_Ld s m args below meth c0 H locs 0 0 Q (F0 m 0 ls []) := by
  obtain ⟨⟨hx, hb, hml, hown, hts⟩, hr, hlk⟩ := id E
  unfold xo_J2_size_Ld at hf
  refine lv_aload_n hx hb dJ2_size_0 rfl (lv_at hl 0 rfl) ?_
  refine gx_J2_48_2025 (v := (σ.1 2027)) E hX hD hP rfl dJ2_size_1 ?_
  cases hf
  rw [hQ]; exact g_iret hx hb hr hlk hP hS dJ2_size_4
theorem kxJ2_size_Ld (l : Launch) (D : va_G) (G : Nat → ClassId) {dsc : Nat → Option Dsc} {ad : Nat → Nat} {σ : Sto} {nr nw nu : Nat} (hD : XD dsc nr nw nu) {r_ : Int32} {z_Ld_size : Int32} (e_zI2027 : σ.1 2027 = z_Ld_size) (hf : xo_J2_size_Ld z_Ld_size = some r_) : CtG l D G dsc ad yJ2_size (ws_ yJ2_size cJ2_size 1 (Option.some Jvm.ClassFile.FieldType.int)) rmJ2_size_Ld [.ref (ad 2025)] σ (some (.int r_)) σ := by
  subst e_zI2027
  exact p_ctG (by decide +kernel) (Nat.le_of_ble_eq_true rfl) (fun p e s m below meth c0 ls A E hP hX hA hS hl => wkJ2_size_Ld E hX hD hA hf rfl hP hS hl)
/-! X1_digit (II)I -/
abbrev rmX1_digit : Room := { frames := 0, cells := 0, slots := 0, locals := 0 }
set_option maxHeartbeats 4000000 in
theorem wkX1_digit {x0 : Int32} {x1 : Int32} {r_ : Int32} (E : EN p s m args meth c0 RX1 cX1_digit 2 (Option.some Jvm.ClassFile.FieldType.int)) (hX : KX D G ad A s s.heap) (hD : XD dsc nr nw nu) (hA : ∀ q, PA dsc ad s.heap.size q → A q) (hf : xo_X1_digit (σ.2.2.1 1170) x0 x1 = some r_) (hQ : Q = MQ below (va_G1 (some (.int r_)) (fun t => PIC D clsA G dsc ad σ t.heap) A) args s 0 0 A) (hP : PIC D clsA G dsc ad σ H) (hS : va_S A s.heap H locs) (hl : lv_has ls 2 [(0, .int x0), (1, .int x1)]) : W p l e rmX1_digit s m args below meth c0 H locs 0 0 Q (F0 m 0 ls []) := by
  obtain ⟨⟨hx, hb, hml, hown, hts⟩, hr, hlk⟩ := id E
  unfold xo_X1_digit at hf
  refine lv_iload_n hx hb dX1_digit_0 rfl (lv_at hl 0 rfl) ?_
  refine va_gets hx hb hX.2.2.1 hS hown (hts _ q1039) (fun _ h => h) dX1_digit_1 ?_
  refine lv_iload_n hx hb dX1_digit_4 rfl (lv_at hl 1 rfl) ?_
  obtain ⟨v1, hv1, hf⟩ := bdP hf
  refine p_iald hx hb hX.1 hP (hD.1 _ _ dX_1170) rfl hv1 dX1_digit_5 ?_
  obtain ⟨v2, hv2, hf⟩ := bdP hf
  refine lv_idiv hx hb dX1_digit_6 (dvI_some hv2).1 ?_
  refine nm_i (dvI_some hv2).2 ?_
  refine lv_iconst hx hb dX1_digit_7 ic_3 ?_
  obtain ⟨v3, hv3, hf⟩ := bdP hf
  refine lv_irem hx hb dX1_digit_8 (rmI_some hv3).1 ?_
  refine nm_i (rmI_some hv3).2 ?_
  cases hf
  rw [hQ]; exact g_iret hx hb hr hlk hP hS dX1_digit_9
theorem kxX1_digit (l : Launch) (D : va_G) (G : Nat → ClassId) {dsc : Nat → Option Dsc} {ad : Nat → Nat} {σ : Sto} {nr nw nu : Nat} (hD : XD dsc nr nw nu) {x0 : Int32} {x1 : Int32} {r_ : Int32} {a_UNIT : Nat → Int32} (e_aI1170 : σ.2.2.1 1170 = a_UNIT) (hf : xo_X1_digit a_UNIT x0 x1 = some r_) : CtG l D G dsc ad yX1_digit (ws_ yX1_digit cX1_digit 2 (Option.some Jvm.ClassFile.FieldType.int)) rmX1_digit [.int x0, .int x1] σ (some (.int r_)) σ := by
  subst e_aI1170
  exact p_ctG (by decide +kernel) (Nat.le_of_ble_eq_true rfl) (fun p e s m below meth c0 ls A E hP hX hA hS hl => wkX1_digit E hX hD hA hf rfl hP hS hl)
/-! X1_with (III)I -/
abbrev rmX1_with : Room := { frames := 0, cells := 0, slots := 0, locals := 0 }
set_option maxHeartbeats 4000000 in
theorem wkX1_with {x0 : Int32} {x1 : Int32} {x2 : Int32} {r_ : Int32} (E : EN p s m args meth c0 RX1 cX1_with 3 (Option.some Jvm.ClassFile.FieldType.int)) (hX : KX D G ad A s s.heap) (hD : XD dsc nr nw nu) (hA : ∀ q, PA dsc ad s.heap.size q → A q) (hf : xo_X1_with (σ.2.2.1 1170) x0 x1 x2 = some r_) (hQ : Q = MQ below (va_G1 (some (.int r_)) (fun t => PIC D clsA G dsc ad σ t.heap) A) args s 0 0 A) (hP : PIC D clsA G dsc ad σ H) (hS : va_S A s.heap H locs) (hl : lv_has ls 3 [(0, .int x0), (1, .int x1), (2, .int x2)]) : W p l e rmX1_with s m args below meth c0 H locs 0 0 Q (F0 m 0 ls []) := by
  obtain ⟨⟨hx, hb, hml, hown, hts⟩, hr, hlk⟩ := id E
  unfold xo_X1_with at hf
  refine lv_iload_n hx hb dX1_with_0 rfl (lv_at hl 0 rfl) ?_
  refine lv_iload_n hx hb dX1_with_1 rfl (lv_at hl 2 rfl) ?_
  refine va_gets hx hb hX.2.2.1 hS hown (hts _ q1039) (fun _ h => h) dX1_with_2 ?_
  refine lv_iload_n hx hb dX1_with_5 rfl (lv_at hl 1 rfl) ?_
  obtain ⟨v1, hv1, hf⟩ := bdP hf
  refine p_iald hx hb hX.1 hP (hD.1 _ _ dX_1170) rfl hv1 dX1_with_6 ?_
  refine lv_imul hx hb dX1_with_7 ?_
  refine lv_iadd hx hb dX1_with_8 ?_
  cases hf
  rw [hQ]; exact g_iret hx hb hr hlk hP hS dX1_with_9
theorem kxX1_with (l : Launch) (D : va_G) (G : Nat → ClassId) {dsc : Nat → Option Dsc} {ad : Nat → Nat} {σ : Sto} {nr nw nu : Nat} (hD : XD dsc nr nw nu) {x0 : Int32} {x1 : Int32} {x2 : Int32} {r_ : Int32} {a_UNIT : Nat → Int32} (e_aI1170 : σ.2.2.1 1170 = a_UNIT) (hf : xo_X1_with a_UNIT x0 x1 x2 = some r_) : CtG l D G dsc ad yX1_with (ws_ yX1_with cX1_with 3 (Option.some Jvm.ClassFile.FieldType.int)) rmX1_with [.int x0, .int x1, .int x2] σ (some (.int r_)) σ := by
  subst e_aI1170
  exact p_ctG (by decide +kernel) (Nat.le_of_ble_eq_true rfl) (fun p e s m below meth c0 ls A E hP hX hA hS hl => wkX1_with E hX hD hA hf rfl hP hS hl)
theorem gx_X1_33_1000 (E : EN p s m args meth c0 RX1 cc nL ret) (hX : KX D G ad A s s.heap) (hD : XD dsc nr nw nu) (hP : PIC D clsA G dsc ad σ H) (hdg : decode cc pc = .ok (.getfield 33, 3)) (kk : W p l e R s m args below meth c0 H locs cells slots Q (F0 m (pc + 3) ls (.ref (ad 2000) :: rest))) : W p l e R s m args below meth c0 H locs cells slots Q (F0 m pc ls (.ref (ad 1000) :: rest)) :=
  p_get E.1.1 E.1.2.1 E.1.2.2.2.2 in_X1 E.1.2.2.2.1 hX.1 hP (hD.1 _ _ dX_1000) rfl 5 (by decide) (E.1.2.2.2.2 _ q512) (fun _ h => h) rfl rfl hdg kk
theorem gx_X1_246_2000 (E : EN p s m args meth c0 RX1 cc nL ret) (hX : KX D G ad A s s.heap) (hD : XD dsc nr nw nu) (hP : PIC D clsA G dsc ad σ H) (hdg : decode cc pc = .ok (.getfield 246, 3)) (kk : W p l e R s m args below meth c0 H locs cells slots Q (F0 m (pc + 3) ls (.ref (ad 2025) :: rest))) : W p l e R s m args below meth c0 H locs cells slots Q (F0 m pc ls (.ref (ad 2000) :: rest)) :=
  p_getN E.1.1 E.1.2.1 E.1.2.2.2.2 in_X3 E.1.2.2.2.1 hX.1 hP (hD.1 _ _ dX_2000) rfl 1 (by decide) (hX.2.1.1 _ q244 rfl) (fun _ h => h) rfl rfl hdg kk
theorem cx_X1_190_J2_size_Ld {rm : Room} {σ1 : Sto} {r : Int32} (E : EN p s m args meth c0 RX1 cc nL ret) (hX : KX D G ad A s s.heap) (hD : XD dsc nr nw nu) (hP : PIC D clsA G dsc ad σ H) (hS : va_S A s.heap H locs) (hA : ∀ q, PA dsc ad s.heap.size q → A q) (hM : CtG l D G dsc ad yJ2_size (ws_ yJ2_size cJ2_size 1 (Option.some Jvm.ClassFile.FieldType.int)) rm [.ref (ad 2025)] σ (some (.int r)) σ1) (hz : rm.cells = 0 ∧ rm.slots = 0) (hR : rm.frames + 1 ≤ R.frames ∧ 8 + (1 + 11) + rm.locals ≤ R.locals) (hcs : cells ≤ R.cells ∧ slots ≤ R.slots) (hsz : ls.size = nL) (hW : (rest.map fun v => v.category).sum ≤ 8) (hdg : decode cc pc = .ok (.invokevirtual 190, 3)) (kk : ∀ (H1 : Heap) (locs1 : List Loc), PIC D clsA G dsc ad σ1 H1 → va_S A s.heap H1 locs1 → W p l e R s m args below meth c0 H1 locs1 cells slots Q (F0 m (pc + 3) ls (.int r :: rest))) : W p l e R s m args below meth c0 H locs cells slots Q (F0 m pc ls (.ref (ad 2025) :: rest)) :=
  p_gV (As := []) (rest := rest) E.1 hX hP hS hA hM (cwV 0 E.1.2.2.2.2 (lw_V q1197 q780 q781 q129 q782) rfl hz.1 hz.2 (by decide +kernel) hR) (hD.1 _ _ dX_2025) rfl rfl rfl hsz rfl hW hdg hcs kk
theorem gx_X1_439_2000 (E : EN p s m args meth c0 RX1 cc nL ret) (hX : KX D G ad A s s.heap) (hD : XD dsc nr nw nu) (hP : PIC D clsA G dsc ad σ H) (hdg : decode cc pc = .ok (.getfield 439, 3)) (kk : W p l e R s m args below meth c0 H locs cells slots Q (F0 m (pc + 3) ls (.ref (ad 2043) :: rest))) : W p l e R s m args below meth c0 H locs cells slots Q (F0 m pc ls (.ref (ad 2000) :: rest)) :=
  p_getN E.1.1 E.1.2.1 E.1.2.2.2.2 in_X3 E.1.2.2.2.1 hX.1 hP (hD.1 _ _ dX_2000) rfl 6 (by decide) (hX.2.1.1 _ q261 rfl) (fun _ h => h) rfl rfl hdg kk
theorem cx_X1_290_X1_digit {rm : Room} {σ1 : Sto} {x0 : Int32} {x1 : Int32} {r : Int32} (E : EN p s m args meth c0 RX1 cc nL ret) (hX : KX D G ad A s s.heap) (hD : XD dsc nr nw nu) (hP : PIC D clsA G dsc ad σ H) (hS : va_S A s.heap H locs) (hA : ∀ q, PA dsc ad s.heap.size q → A q) (hM : CtG l D G dsc ad yX1_digit (ws_ yX1_digit cX1_digit 2 (Option.some Jvm.ClassFile.FieldType.int)) rm [.int x0, .int x1] σ (some (.int r)) σ1) (hz : rm.cells = 0 ∧ rm.slots = 0) (hR : rm.frames + 1 ≤ R.frames ∧ 8 + (2 + 11) + rm.locals ≤ R.locals) (hcs : cells ≤ R.cells ∧ slots ≤ R.slots) (hsz : ls.size = nL) (hW : (rest.map fun v => v.category).sum ≤ 8) (hdg : decode cc pc = .ok (.invokestatic 290, 3)) (kk : ∀ (H1 : Heap) (locs1 : List Loc), PIC D clsA G dsc ad σ1 H1 → va_S A s.heap H1 locs1 → W p l e R s m args below meth c0 H1 locs1 cells slots Q (F0 m (pc + 3) ls (.int r :: rest))) : W p l e R s m args below meth c0 H locs cells slots Q (F0 m pc ls (.int x1 :: .int x0 :: rest)) :=
  p_gS (As := [.int x0, .int x1]) (rest := rest) E.1 hX hP hS hA hM (va_cwS 2 E.1.2.2.2.2 (lw_S q1244 q1037 q124 q1038) rfl hz.1 hz.2 (by decide +kernel) hR) rfl hsz rfl hW hdg hcs kk
theorem cx_X1_249_X1_with {rm : Room} {σ1 : Sto} {x0 : Int32} {x1 : Int32} {x2 : Int32} {r : Int32} (E : EN p s m args meth c0 RX1 cc nL ret) (hX : KX D G ad A s s.heap) (hD : XD dsc nr nw nu) (hP : PIC D clsA G dsc ad σ H) (hS : va_S A s.heap H locs) (hA : ∀ q, PA dsc ad s.heap.size q → A q) (hM : CtG l D G dsc ad yX1_with (ws_ yX1_with cX1_with 3 (Option.some Jvm.ClassFile.FieldType.int)) rm [.int x0, .int x1, .int x2] σ (some (.int r)) σ1) (hz : rm.cells = 0 ∧ rm.slots = 0) (hR : rm.frames + 1 ≤ R.frames ∧ 8 + (3 + 11) + rm.locals ≤ R.locals) (hcs : cells ≤ R.cells ∧ slots ≤ R.slots) (hsz : ls.size = nL) (hW : (rest.map fun v => v.category).sum ≤ 8) (hdg : decode cc pc = .ok (.invokestatic 249, 3)) (kk : ∀ (H1 : Heap) (locs1 : List Loc), PIC D clsA G dsc ad σ1 H1 → va_S A s.heap H1 locs1 → W p l e R s m args below meth c0 H1 locs1 cells slots Q (F0 m (pc + 3) ls (.int r :: rest))) : W p l e R s m args below meth c0 H locs cells slots Q (F0 m pc ls (.int x2 :: .int x1 :: .int x0 :: rest)) :=
  p_gS (As := [.int x0, .int x1, .int x2]) (rest := rest) E.1 hX hP hS hA hM (va_cwS 3 E.1.2.2.2.2 (lw_S q1198 q1138 q124 q1139) rfl hz.1 hz.2 (by decide +kernel) hR) rfl hsz rfl hW hdg hcs kk
/-! X1_seeing (III)I -/
abbrev rmX1_seeing : Room := { frames := 1, cells := 0, slots := 0, locals := 22 }
set_option maxHeartbeats 4000000 in
theorem wkX1_seeing {x1 : Int32} {x2 : Int32} {x3 : Int32} {r_ : Int32} (E : EN p s m args meth c0 RX1 cX1_seeing 6 (Option.some Jvm.ClassFile.FieldType.int)) (hX : KX D G ad A s s.heap) (hD : XD dsc nr nw nu) (hA : ∀ q, PA dsc ad s.heap.size q → A q) (hf : xo_X1_seeing (σ.1 2027) (σ.2.2.1 1170) (σ.2.2.1 2043) x1 x2 x3 = some r_) (hQ : Q = MQ below (va_G1 (some (.int r_)) (fun t => PIC D clsA G dsc ad σ t.heap) A) args s 0 0 A) (hP : PIC D clsA G dsc ad σ H) (hS : va_S A s.heap H locs) (hl : lv_has ls 6 [(0, .ref (ad 1000)), (1, .int x1), (2, .int x2), (3, .int x3)]) : W p l e rmX1_seeing s m args below meth c0 H locs 0 0 Q (F0 m 0 ls []) := by
  obtain ⟨⟨hx, hb, hml, hown, hts⟩, hr, hlk⟩ := id E
  unfold xo_X1_seeing at hf
  refine lv_iload_n hx hb dX1_seeing_0 rfl (lv_at hl 2 rfl) ?_
  refine lv_istore (lv' := [(4, .int x2), (0, .ref (ad 1000)), (1, .int x1), (2, .int x2), (3, .int x3)]) hx hb dX1_seeing_1 hl (by decide) rfl (fun ls hl => ?_)
  refine lv_iconst hx hb dX1_seeing_3 ic_0 ?_
  refine lv_istore (lv' := [(5, .int 0), (4, .int x2), (0, .ref (ad 1000)), (1, .int x1), (2, .int x2), (3, .int x3)]) hx hb dX1_seeing_4 hl (by decide) rfl (fun ls hl => ?_)
  have LP6 : ∀ (st6 : Int32 × Int32) (ex6 : (Int32)), loop (xo_X1_seeing_L6 (σ.1 2027) (σ.2.2.1 1170) (σ.2.2.1 2043) x1 x3) st6 = some ex6 → ∀ (H : Heap) (locs : List Loc), PIC D clsA G dsc ad σ H → va_S A s.heap H locs → ∀ (ls : Array Slot), lv_has ls 6 [(0, .ref (ad 1000)), (1, .int x1), (3, .int x3), (4, .int (st6.1)), (5, .int (st6.2))] → (∀ (y15 : Int32), ex6 = y15 → ∀ (H : Heap) (locs : List Loc), PIC D clsA G dsc ad σ H → va_S A s.heap H locs → ∀ (ls : Array Slot), lv_has ls 6 [(4, .int y15)] → W p l e rmX1_seeing s m args below meth c0 H locs 0 0 Q (F0 m 72 ls [])) → W p l e rmX1_seeing s m args below meth c0 H locs 0 0 Q (F0 m 6 ls []) := by
    refine loop_P (fun st6 ex6 o6 hf ih6 hx6 => ?_)
    obtain ⟨y1, y2⟩ := st6
    intro H locs (hP : PIC D clsA G dsc ad σ H) hS ls (hl : lv_has ls 6 [(0, .ref (ad 1000)), (1, .int x1), (3, .int x3), (4, .int y1), (5, .int y2)]) KE6_0
    dsimp only [xo_X1_seeing_L6] at hf
    refine lv_iload hx hb dX1_seeing_6 (lv_at hl 4 rfl) ?_
    refine lv_aload_n hx hb dX1_seeing_8 rfl (lv_at hl 0 rfl) ?_
    refine gx_X1_33_1000 E hX hD hP dX1_seeing_9 ?_
    refine gx_X1_246_2000 E hX hD hP dX1_seeing_12 ?_
    obtain ⟨v3, u4, hf⟩ := bdP hf
    refine cx_X1_190_J2_size_Ld E hX hD hP hS hA (kxJ2_size_Ld l D G hD rfl u4) ⟨rfl, rfl⟩ ⟨Nat.le_of_ble_eq_true rfl, Nat.le_of_ble_eq_true rfl⟩ ⟨Nat.zero_le _, Nat.zero_le _⟩ hl.1 (Nat.le_of_ble_eq_true rfl) dX1_seeing_15 (fun H locs hP hS => ?_)
    refine lv_icmp_ge (tgt := 72) hx hb dX1_seeing_18 (by decide) (fun c5 => ?_) (fun c5 => ?_)
    · have hf := ifT c5 hf
      exact KE6_0 _ (hx6 _ (Option.some.inj hf).symm).symm H locs hP hS ls (lv_sub hl [3] rfl)
    · have hf := ifF c5 hf
      refine lv_aload_n hx hb dX1_seeing_21 rfl (lv_at hl 0 rfl) ?_
      refine gx_X1_33_1000 E hX hD hP dX1_seeing_22 ?_
      refine gx_X1_439_2000 E hX hD hP dX1_seeing_25 ?_
      refine lv_iload_n hx hb dX1_seeing_28 rfl (lv_at hl 1 rfl) ?_
      obtain ⟨v6, hv6, hf⟩ := bdP hf
      refine p_iald hx hb hX.1 hP (hD.1 _ _ dX_2043) rfl hv6 dX1_seeing_29 ?_
      refine lv_iload hx hb dX1_seeing_30 (lv_at hl 4 rfl) ?_
      refine lv_ishr hx hb dX1_seeing_32 ?_
      refine lv_iconst hx hb dX1_seeing_33 ic_1 ?_
      refine lv_iand hx hb dX1_seeing_34 ?_
      refine lv_iconst hx hb dX1_seeing_35 ic_1 ?_
      have J66 : ∀ (y7 : Int32), xo_X1_seeing_J66 y2 y7 = some o6 → ∀ (H : Heap) (locs : List Loc), PIC D clsA G dsc ad σ H → va_S A s.heap H locs → ∀ (ls : Array Slot), lv_has ls 6 [(0, .ref (ad 1000)), (1, .int x1), (3, .int x3), (4, .int y7), (5, .int y2)] → W p l e rmX1_seeing s m args below meth c0 H locs 0 0 Q (F0 m 66 ls []) := by
        intro y7 hf H locs hP hS ls hl
        unfold xo_X1_seeing_J66 at hf
        obtain ⟨v8, hv8, hf⟩ := bdP hf
        refine lv_iinc (v := v8) (lv' := [(5, .int v8), (0, .ref (ad 1000)), (1, .int x1), (3, .int x3), (4, .int y7)]) hx hb dX1_seeing_66 hl (k := 4) rfl (Option.some.inj hv8) (by decide) rfl (fun ls hl => ?_)
        refine lv_goto (tgt := 6) hx hb dX1_seeing_69 (by decide) ?_
        exact ih6 _ (Option.some.inj hf).symm H locs hP hS ls (lv_sub hl [1, 2, 3, 4, 0] rfl) KE6_0
      refine lv_icmp_ne (tgt := 66) hx hb dX1_seeing_36 (by decide) (fun c9 => ?_) (fun c9 => ?_)
      · have hf := ifF c9 hf
        exact J66 y1 hf H locs hP hS ls (lv_sub hl [0, 1, 2, 3, 4] rfl)
      · have hf := ifT c9 hf
        refine lv_iload hx hb dX1_seeing_39 (lv_at hl 3 rfl) ?_
        refine lv_iload hx hb dX1_seeing_41 (lv_at hl 4 rfl) ?_
        obtain ⟨v10, u11, hf⟩ := bdP hf
        refine cx_X1_290_X1_digit E hX hD hP hS hA (kxX1_digit l D G hD rfl u11) ⟨rfl, rfl⟩ ⟨Nat.le_of_ble_eq_true rfl, Nat.le_of_ble_eq_true rfl⟩ ⟨Nat.zero_le _, Nat.zero_le _⟩ hl.1 (Nat.le_of_ble_eq_true rfl) dX1_seeing_43 (fun H locs hP hS => ?_)
        refine lv_if_ne (tgt := 66) hx hb dX1_seeing_46 (by decide) (fun c12 => ?_) (fun c12 => ?_)
        · have hf := ifF c12 hf
          exact J66 y1 hf H locs hP hS ls (lv_sub hl [0, 1, 2, 3, 4] rfl)
        · have hf := ifT c12 hf
          refine lv_iload hx hb dX1_seeing_49 (lv_at hl 3 rfl) ?_
          refine lv_iload hx hb dX1_seeing_51 (lv_at hl 4 rfl) ?_
          refine lv_iconst hx hb dX1_seeing_53 ic_1 ?_
          refine lv_iload_n hx hb dX1_seeing_54 rfl (lv_at hl 2 rfl) ?_
          refine lv_iload hx hb dX1_seeing_55 (lv_at hl 4 rfl) ?_
          refine lv_ishr hx hb dX1_seeing_57 ?_
          refine lv_iconst hx hb dX1_seeing_58 ic_1 ?_
          refine lv_iand hx hb dX1_seeing_59 ?_
          refine lv_iadd hx hb dX1_seeing_60 ?_
          obtain ⟨v13, u14, hf⟩ := bdP hf
          refine cx_X1_249_X1_with E hX hD hP hS hA (kxX1_with l D G hD rfl u14) ⟨rfl, rfl⟩ ⟨Nat.le_of_ble_eq_true rfl, Nat.le_of_ble_eq_true rfl⟩ ⟨Nat.zero_le _, Nat.zero_le _⟩ hl.1 (Nat.le_of_ble_eq_true rfl) dX1_seeing_61 (fun H locs hP hS => ?_)
          refine lv_istore (lv' := [(4, .int v13), (0, .ref (ad 1000)), (1, .int x1), (3, .int x3), (5, .int y2)]) hx hb dX1_seeing_64 hl (by decide) rfl (fun ls hl => ?_)
          exact J66 v13 hf H locs hP hS ls (lv_sub hl [1, 2, 3, 0, 4] rfl)
  obtain ⟨ex6, hlp6, hf⟩ := bdP hf
  refine LP6 (x2, 0) ex6 hlp6 H locs hP hS ls (lv_sub hl [2, 3, 5, 1, 0] rfl) ?_
  intro y15 hex6 H locs hP hS ls hl
  subst ex6
  refine lv_iload hx hb dX1_seeing_72 (lv_at hl 0 rfl) ?_
  cases hf
  rw [hQ]; exact g_iret hx hb hr hlk hP hS dX1_seeing_74
theorem kxX1_seeing (l : Launch) (D : va_G) (G : Nat → ClassId) {dsc : Nat → Option Dsc} {ad : Nat → Nat} {σ : Sto} {nr nw nu : Nat} (hD : XD dsc nr nw nu) {x1 : Int32} {x2 : Int32} {x3 : Int32} {r_ : Int32} {z_Ld_size : Int32} (e_zI2027 : σ.1 2027 = z_Ld_size) {a_UNIT : Nat → Int32} (e_aI1170 : σ.2.2.1 1170 = a_UNIT) {a_L_seen : Nat → Int32} (e_aI2043 : σ.2.2.1 2043 = a_L_seen) (hf : xo_X1_seeing z_Ld_size a_UNIT a_L_seen x1 x2 x3 = some r_) : CtG l D G dsc ad yX1_seeing (ws_ yX1_seeing cX1_seeing 6 (Option.some Jvm.ClassFile.FieldType.int)) rmX1_seeing [.ref (ad 1000), .int x1, .int x2, .int x3] σ (some (.int r_)) σ := by
  subst e_zI2027
  subst e_aI1170
  subst e_aI2043
  exact p_ctG (by decide +kernel) (Nat.le_of_ble_eq_true rfl) (fun p e s m below meth c0 ls A E hP hX hA hS hl => wkX1_seeing E hX hD hA hf rfl hP hS hl)
theorem gx_X5_15_1060 (E : EN p s m args meth c0 RX5 cc nL ret) (hX : KX D G ad A s s.heap) (hD : XD dsc nr nw nu) (hP : PIC D clsA G dsc ad σ H) (hdg : decode cc pc = .ok (.getfield 15, 3)) (kk : W p l e R s m args below meth c0 H locs cells slots Q (F0 m (pc + 3) ls (.ref (ad 1150) :: rest))) : W p l e R s m args below meth c0 H locs cells slots Q (F0 m pc ls (.ref (ad 1060) :: rest)) :=
  p_get E.1.1 E.1.2.1 E.1.2.2.2.2 in_X6 E.1.2.2.2.1 hX.1 hP (hD.1 _ _ dX_1060) rfl 0 (by decide) (E.1.2.2.2.2 _ q352) (fun _ h => h) rfl rfl hdg kk
/-! X5_value_TB (II)J -/
abbrev rmX5_value_TB : Room := { frames := 0, cells := 0, slots := 0, locals := 0 }
set_option maxHeartbeats 4000000 in
theorem wkX5_value_TB {x1 : Int32} {x2 : Int32} {r_ : Int64} (E : EN p s m args meth c0 RX5 cX5_value 3 (Option.some Jvm.ClassFile.FieldType.long)) (hX : KX D G ad A s s.heap) (hD : XD dsc nr nw nu) (hA : ∀ q, PA dsc ad s.heap.size q → A q) (hf : xo_X5_value_TB (σ.2.2.2.1 1150) x1 x2 = some r_) (hQ : Q = MQ below (va_G1 (some (.long r_)) (fun t => PIC D clsA G dsc ad σ t.heap) A) args s 0 0 A) (hP : PIC D clsA G dsc ad σ H) (hS : va_S A s.heap H locs) (hl : lv_has ls 3 [(0, .ref (ad 1060)), (1, .int x1), (2, .int x2)]) : W p l e rmX5_value_TB s m args below meth c0 H locs 0 0 Q (F0 m 0 ls []) := by
  obtain ⟨⟨hx, hb, hml, hown, hts⟩, hr, hlk⟩ := id E
  unfold xo_X5_value_TB at hf
  refine lv_aload_n hx hb dX5_value_0 rfl (lv_at hl 0 rfl) ?_
  refine gx_X5_15_1060 E hX hD hP dX5_value_1 ?_
  refine lv_bipush hx hb dX5_value_4 bp_10 ?_
  refine lv_iload_n hx hb dX5_value_6 rfl (lv_at hl 2 rfl) ?_
  refine lv_imul hx hb dX5_value_7 ?_
  refine lv_iload_n hx hb dX5_value_8 rfl (lv_at hl 1 rfl) ?_
  refine lv_iadd hx hb dX5_value_9 ?_
  obtain ⟨v1, hv1, hf⟩ := bdP hf
  refine p_lald hx hb hX.1 hP (hD.1 _ _ dX_1150) rfl hv1 dX5_value_10 ?_
  cases hf
  rw [hQ]; exact g_lret hx hb hr hlk hP hS dX5_value_11
theorem kxX5_value_TB (l : Launch) (D : va_G) (G : Nat → ClassId) {dsc : Nat → Option Dsc} {ad : Nat → Nat} {σ : Sto} {nr nw nu : Nat} (hD : XD dsc nr nw nu) {x1 : Int32} {x2 : Int32} {r_ : Int64} {a_TB_value : Nat → Int64} (e_aL1150 : σ.2.2.2.1 1150 = a_TB_value) (hf : xo_X5_value_TB a_TB_value x1 x2 = some r_) : CtG l D G dsc ad yX5_value (ws_ yX5_value cX5_value 3 (Option.some Jvm.ClassFile.FieldType.long)) rmX5_value_TB [.ref (ad 1060), .int x1, .int x2] σ (some (.long r_)) σ := by
  subst e_aL1150
  exact p_ctG (by decide +kernel) (Nat.le_of_ble_eq_true rfl) (fun p e s m below meth c0 ls A E hP hX hA hS hl => wkX5_value_TB E hX hD hA hf rfl hP hS hl)
theorem gx_X3_41_2000 (E : EN p s m args meth c0 RX3 cc nL ret) (hX : KX D G ad A s s.heap) (hD : XD dsc nr nw nu) (hP : PIC D clsA G dsc ad σ H) (hdg : decode cc pc = .ok (.getfield 41, 3)) (kk : W p l e R s m args below meth c0 H locs cells slots Q (F0 m (pc + 3) ls (.ref (ad 2044) :: rest))) : W p l e R s m args below meth c0 H locs cells slots Q (F0 m pc ls (.ref (ad 2000) :: rest)) :=
  p_get E.1.1 E.1.2.1 E.1.2.2.2.2 in_X3 E.1.2.2.2.1 hX.1 hP (hD.1 _ _ dX_2000) rfl 7 (by decide) (E.1.2.2.2.2 _ q262) (fun _ h => h) rfl rfl hdg kk
/-! X3_between (II)LShutPasses$Road; -/
abbrev rmX3_between : Room := { frames := 0, cells := 0, slots := 0, locals := 0 }
set_option maxHeartbeats 4000000 in
theorem wkX3_between {x1 : Int32} {x2 : Int32} {r_ : Int32} (E : EN p s m args meth c0 RX3 cX3_between 3 (Option.some (Jvm.ClassFile.FieldType.object "ShutPasses$Road"))) (hX : KX D G ad A s s.heap) (hD : XD dsc nr nw nu) (hA : ∀ q, PA dsc ad s.heap.size q → A q) (hf : xo_X3_between (fun k => σ.2.2.1 (4000 + 16 * k)) x1 x2 = some r_) (hQ : Q = MQ below (va_G1 (some (va_rf (drf ad 6000 r_))) (fun t => PIC D clsA G dsc ad σ t.heap) A) args s 0 0 A) (hP : PIC D clsA G dsc ad σ H) (hS : va_S A s.heap H locs) (hl : lv_has ls 3 [(0, .ref (ad 2000)), (1, .int x1), (2, .int x2)]) : W p l e rmX3_between s m args below meth c0 H locs 0 0 Q (F0 m 0 ls []) := by
  obtain ⟨⟨hx, hb, hml, hown, hts⟩, hr, hlk⟩ := id E
  unfold xo_X3_between at hf
  refine lv_aload_n hx hb dX3_between_0 rfl (lv_at hl 0 rfl) ?_
  refine gx_X3_41_2000 E hX hD hP dX3_between_1 ?_
  refine lv_iload_n hx hb dX3_between_4 rfl (lv_at hl 1 rfl) ?_
  obtain ⟨v1, hv1, hf⟩ := bdP hf
  refine p_aald5 hx hb hX.1 hP (hD.1 _ _ dX_2044) hv1 dX3_between_5 ?_
  refine lv_iload_n hx hb dX3_between_6 rfl (lv_at hl 2 rfl) ?_
  obtain ⟨v2, hv2, hf⟩ := bdP hf
  refine p_aaldG hx hb hX.1 hD hP hv2 rfl dX3_between_7 ?_
  cases hf
  rw [hQ]; exact g_aret hx hb hr hlk hP hS dX3_between_8
theorem kxX3_between (l : Launch) (D : va_G) (G : Nat → ClassId) {dsc : Nat → Option Dsc} {ad : Nat → Nat} {σ : Sto} {nr nw nu : Nat} (hD : XD dsc nr nw nu) {x1 : Int32} {x2 : Int32} {r_ : Int32} {g_grid : Nat → Nat → Int32} (e_gG0 : (fun k => σ.2.2.1 (4000 + 16 * k)) = g_grid) (hf : xo_X3_between g_grid x1 x2 = some r_) : CtG l D G dsc ad yX3_between (ws_ yX3_between cX3_between 3 (Option.some (Jvm.ClassFile.FieldType.object "ShutPasses$Road"))) rmX3_between [.ref (ad 2000), .int x1, .int x2] σ (some (va_rf (drf ad 6000 r_))) σ := by
  subst e_gG0
  exact p_ctG (by decide +kernel) (Nat.le_of_ble_eq_true rfl) (fun p e s m below meth c0 ls A E hP hX hA hS hl => wkX3_between E hX hD hA hf rfl hP hS hl)
theorem cx_X3_80_X3_between {rm : Room} {σ1 : Sto} {x1 : Int32} {x2 : Int32} {r : Int32} (E : EN p s m args meth c0 RX3 cc nL ret) (hX : KX D G ad A s s.heap) (hD : XD dsc nr nw nu) (hP : PIC D clsA G dsc ad σ H) (hS : va_S A s.heap H locs) (hA : ∀ q, PA dsc ad s.heap.size q → A q) (hM : CtG l D G dsc ad yX3_between (ws_ yX3_between cX3_between 3 (Option.some (Jvm.ClassFile.FieldType.object "ShutPasses$Road"))) rm [.ref (ad 2000), .int x1, .int x2] σ (some (va_rf (drf ad 6000 r))) σ1) (hz : rm.cells = 0 ∧ rm.slots = 0) (hR : rm.frames + 1 ≤ R.frames ∧ 8 + (3 + 11) + rm.locals ≤ R.locals) (hcs : cells ≤ R.cells ∧ slots ≤ R.slots) (hsz : ls.size = nL) (hW : (rest.map fun v => v.category).sum ≤ 8) (hdg : decode cc pc = .ok (.invokevirtual 80, 3)) (kk : ∀ (H1 : Heap) (locs1 : List Loc), PIC D clsA G dsc ad σ1 H1 → va_S A s.heap H1 locs1 → W p l e R s m args below meth c0 H1 locs1 cells slots Q (F0 m (pc + 3) ls (va_rf (drf ad 6000 r) :: rest))) : W p l e R s m args below meth c0 H locs cells slots Q (F0 m pc ls (.int x2 :: .int x1 :: .ref (ad 2000) :: rest)) :=
  p_gV (As := [.int x1, .int x2]) (rest := rest) E.1 hX hP hS hA hM (cwV 2 E.1.2.2.2.2 (lw_V q1108 q812 q813 q126 q814) rfl hz.1 hz.2 (by decide +kernel) hR) (hD.1 _ _ dX_2000) rfl rfl rfl hsz rfl hW hdg hcs kk
theorem gp_X3_85_R {v h : Int32} {f : Nat → Int32} (E : EN p s m args meth c0 RX3 cc nL ret) (hX : KX D G ad A s s.heap) (hD : XD dsc nr nw nu) (hP : PIC D clsA G dsc ad σ H) (hf : (fun k => σ.1 (6000 + 16 * k + 6)) = f) (hv : rdI f nr v = some h) (hdg : decode cc pc = .ok (.getfield 85, 3)) (kk : W p l e R s m args below meth c0 H locs cells slots Q (F0 m (pc + 3) ls (.int h :: rest))) : W p l e R s m args below meth c0 H locs cells slots Q (F0 m pc ls (va_rf (drf ad 6000 v) :: rest)) := by
  subst hf
  obtain ⟨h0, h1, h2⟩ := pool_ok hv
  exact p_nn h0 (p_getN E.1.1 E.1.2.1 E.1.2.2.2.2 in_X18 E.1.2.2.2.1 hX.1 hP (hD.2.1 _ h1) rfl 6 (by decide) (hX.2.1.1 _ q845 rfl) (fun _ h => h) rfl (congrArg Value.int h2) hdg kk)
theorem gp_X3_88_R {v h : Int32} {f : Nat → Int32} (E : EN p s m args meth c0 RX3 cc nL ret) (hX : KX D G ad A s s.heap) (hD : XD dsc nr nw nu) (hP : PIC D clsA G dsc ad σ H) (hf : (fun k => σ.1 (6000 + 16 * k + 2)) = f) (hv : rdI f nr v = some h) (hdg : decode cc pc = .ok (.getfield 88, 3)) (kk : W p l e R s m args below meth c0 H locs cells slots Q (F0 m (pc + 3) ls (.int h :: rest))) : W p l e R s m args below meth c0 H locs cells slots Q (F0 m pc ls (va_rf (drf ad 6000 v) :: rest)) := by
  subst hf
  obtain ⟨h0, h1, h2⟩ := pool_ok hv
  exact p_nn h0 (p_getN E.1.1 E.1.2.1 E.1.2.2.2.2 in_X18 E.1.2.2.2.1 hX.1 hP (hD.2.1 _ h1) rfl 2 (by decide) (hX.2.1.1 _ q830 rfl) (fun _ h => h) rfl (congrArg Value.int h2) hdg kk)
theorem cx_X3_76_X1_digit {rm : Room} {σ1 : Sto} {x0 : Int32} {x1 : Int32} {r : Int32} (E : EN p s m args meth c0 RX3 cc nL ret) (hX : KX D G ad A s s.heap) (hD : XD dsc nr nw nu) (hP : PIC D clsA G dsc ad σ H) (hS : va_S A s.heap H locs) (hA : ∀ q, PA dsc ad s.heap.size q → A q) (hM : CtG l D G dsc ad yX1_digit (ws_ yX1_digit cX1_digit 2 (Option.some Jvm.ClassFile.FieldType.int)) rm [.int x0, .int x1] σ (some (.int r)) σ1) (hz : rm.cells = 0 ∧ rm.slots = 0) (hR : rm.frames + 1 ≤ R.frames ∧ 8 + (2 + 11) + rm.locals ≤ R.locals) (hcs : cells ≤ R.cells ∧ slots ≤ R.slots) (hsz : ls.size = nL) (hW : (rest.map fun v => v.category).sum ≤ 8) (hdg : decode cc pc = .ok (.invokestatic 76, 3)) (kk : ∀ (H1 : Heap) (locs1 : List Loc), PIC D clsA G dsc ad σ1 H1 → va_S A s.heap H1 locs1 → W p l e R s m args below meth c0 H1 locs1 cells slots Q (F0 m (pc + 3) ls (.int r :: rest))) : W p l e R s m args below meth c0 H locs cells slots Q (F0 m pc ls (.int x1 :: .int x0 :: rest)) :=
  p_gSN (As := [.int x0, .int x1]) (rest := rest) E.1 hX hP hS hA hM ⟨va_cnB 2 E.1.2.2.2.2 (lw_meth q1038) rfl hz.1 hz.2 (hX.2.1.1 _ q1085 rfl) (E.1.2.2.2.2 _ q124) (by decide +kernel) hR, (E.1.2.2.2.2 _ q1037), trivial⟩ rfl hsz rfl hW hdg hcs kk
theorem gp_X3_91_R {v h : Int32} {f : Nat → Int32} (E : EN p s m args meth c0 RX3 cc nL ret) (hX : KX D G ad A s s.heap) (hD : XD dsc nr nw nu) (hP : PIC D clsA G dsc ad σ H) (hf : (fun k => σ.1 (6000 + 16 * k + 5)) = f) (hv : rdI f nr v = some h) (hdg : decode cc pc = .ok (.getfield 91, 3)) (kk : W p l e R s m args below meth c0 H locs cells slots Q (F0 m (pc + 3) ls (.int h :: rest))) : W p l e R s m args below meth c0 H locs cells slots Q (F0 m pc ls (va_rf (drf ad 6000 v) :: rest)) := by
  subst hf
  obtain ⟨h0, h1, h2⟩ := pool_ok hv
  exact p_nn h0 (p_getN E.1.1 E.1.2.1 E.1.2.2.2.2 in_X18 E.1.2.2.2.1 hX.1 hP (hD.2.1 _ h1) rfl 5 (by decide) (hX.2.1.1 _ q840 rfl) (fun _ h => h) rfl (congrArg Value.int h2) hdg kk)
/-! X3_cost (III)I -/
abbrev rmX3_cost : Room := { frames := 1, cells := 0, slots := 0, locals := 22 }
set_option maxHeartbeats 4000000 in
theorem wkX3_cost {x1 : Int32} {x2 : Int32} {x3 : Int32} {r_ : Int32} (E : EN p s m args meth c0 RX3 cX3_cost 5 (Option.some Jvm.ClassFile.FieldType.int)) (hX : KX D G ad A s s.heap) (hD : XD dsc nr nw nu) (hA : ∀ q, PA dsc ad s.heap.size q → A q) (hf : xo_X3_cost (σ.2.2.1 1170) nr (fun k => σ.1 (6000 + 16 * k + 2)) (fun k => σ.1 (6000 + 16 * k + 5)) (fun k => σ.1 (6000 + 16 * k + 6)) (fun k => σ.2.2.1 (4000 + 16 * k)) x1 x2 x3 = some r_) (hQ : Q = MQ below (va_G1 (some (.int r_)) (fun t => PIC D clsA G dsc ad σ t.heap) A) args s 0 0 A) (hP : PIC D clsA G dsc ad σ H) (hS : va_S A s.heap H locs) (hl : lv_has ls 5 [(0, .ref (ad 2000)), (1, .int x1), (2, .int x2), (3, .int x3)]) : W p l e rmX3_cost s m args below meth c0 H locs 0 0 Q (F0 m 0 ls []) := by
  obtain ⟨⟨hx, hb, hml, hown, hts⟩, hr, hlk⟩ := id E
  unfold xo_X3_cost at hf
  refine lv_aload_n hx hb dX3_cost_0 rfl (lv_at hl 0 rfl) ?_
  refine lv_iload_n hx hb dX3_cost_1 rfl (lv_at hl 1 rfl) ?_
  refine lv_iload_n hx hb dX3_cost_2 rfl (lv_at hl 2 rfl) ?_
  obtain ⟨v1, u2, hf⟩ := bdP hf
  refine cx_X3_80_X3_between E hX hD hP hS hA (kxX3_between l D G hD rfl u2) ⟨rfl, rfl⟩ ⟨Nat.le_of_ble_eq_true rfl, Nat.le_of_ble_eq_true rfl⟩ ⟨Nat.zero_le _, Nat.zero_le _⟩ hl.1 (Nat.le_of_ble_eq_true rfl) dX3_cost_3 (fun H locs hP hS => ?_)
  refine r_astore (lv' := [(4, va_rf (drf ad 6000 v1)), (0, .ref (ad 2000)), (1, .int x1), (2, .int x2), (3, .int x3)]) hx hb dX3_cost_6 hl (by decide) rfl (fun ls hl => ?_)
  refine r_aload hx hb dX3_cost_8 (lv_at hl 0 rfl) ?_
  refine r_ifnonnull (tgt := 16) hx hb dX3_cost_10 (by decide) (fun c3 => ?_) (fun c3 => ?_)
  · have hf := ifT c3 hf
    refine lv_ldc hx hb hown (hts _ q1109) dX3_cost_13 ?_
    cases hf
    rw [hQ]; exact g_iret hx hb hr hlk hP hS dX3_cost_15
  · have hf := ifF c3 hf
    refine r_aload hx hb dX3_cost_16 (lv_at hl 0 rfl) ?_
    obtain ⟨v4, hv4, hf⟩ := bdP hf
    refine gp_X3_85_R E hX hD hP rfl hv4 dX3_cost_18 ?_
    refine lv_iconst hx hb dX3_cost_21 ic_m1 ?_
    have J38 : xo_X3_cost_J38 nr (fun k => σ.1 (6000 + 16 * k + 2)) v1 = some r_ → ∀ (H : Heap) (locs : List Loc), PIC D clsA G dsc ad σ H → va_S A s.heap H locs → ∀ (ls : Array Slot), lv_has ls 5 [(4, va_rf (drf ad 6000 v1))] → W p l e rmX3_cost s m args below meth c0 H locs 0 0 Q (F0 m 38 ls []) := by
      intro  hf H locs hP hS ls hl
      unfold xo_X3_cost_J38 at hf
      refine r_aload hx hb dX3_cost_38 (lv_at hl 0 rfl) ?_
      obtain ⟨v5, hv5, hf⟩ := bdP hf
      refine gp_X3_88_R E hX hD hP rfl hv5 dX3_cost_40 ?_
      refine lv_goto (tgt := 83) hx hb dX3_cost_43 (by decide) ?_
      cases hf
      rw [hQ]; exact g_iret hx hb hr hlk hP hS dX3_cost_83
    refine lv_icmp_eq (tgt := 38) hx hb dX3_cost_22 (by decide) (fun c6 => ?_) (fun c6 => ?_)
    · have hf := ifT c6 hf
      exact J38  hf H locs hP hS ls (lv_sub hl [0] rfl)
    · have hf := ifF c6 hf
      refine lv_iload_n hx hb dX3_cost_25 rfl (lv_at hl 4 rfl) ?_
      refine r_aload hx hb dX3_cost_26 (lv_at hl 0 rfl) ?_
      obtain ⟨v7, hv7, hf⟩ := bdP hf
      refine gp_X3_85_R E hX hD hP rfl hv7 dX3_cost_28 ?_
      obtain ⟨v8, u9, hf⟩ := bdP hf
      refine cx_X3_76_X1_digit E hX hD hP hS hA (kxX1_digit l D G hD rfl u9) ⟨rfl, rfl⟩ ⟨Nat.le_of_ble_eq_true rfl, Nat.le_of_ble_eq_true rfl⟩ ⟨Nat.zero_le _, Nat.zero_le _⟩ hl.1 (Nat.le_of_ble_eq_true rfl) dX3_cost_31 (fun H locs hP hS => ?_)
      refine lv_iconst hx hb dX3_cost_34 ic_1 ?_
      refine lv_icmp_ne (tgt := 46) hx hb dX3_cost_35 (by decide) (fun c10 => ?_) (fun c10 => ?_)
      · have hf := ifF c10 hf
        refine lv_iload_n hx hb dX3_cost_46 rfl (lv_at hl 4 rfl) ?_
        refine r_aload hx hb dX3_cost_47 (lv_at hl 0 rfl) ?_
        obtain ⟨v11, hv11, hf⟩ := bdP hf
        refine gp_X3_85_R E hX hD hP rfl hv11 dX3_cost_49 ?_
        obtain ⟨v12, u13, hf⟩ := bdP hf
        refine cx_X3_76_X1_digit E hX hD hP hS hA (kxX1_digit l D G hD rfl u13) ⟨rfl, rfl⟩ ⟨Nat.le_of_ble_eq_true rfl, Nat.le_of_ble_eq_true rfl⟩ ⟨Nat.zero_le _, Nat.zero_le _⟩ hl.1 (Nat.le_of_ble_eq_true rfl) dX3_cost_52 (fun H locs hP hS => ?_)
        refine lv_iconst hx hb dX3_cost_55 ic_2 ?_
        have J81 : xo_X3_cost_J81 = some r_ → ∀ (H : Heap) (locs : List Loc), PIC D clsA G dsc ad σ H → va_S A s.heap H locs → ∀ (ls : Array Slot), lv_has ls 5 [] → W p l e rmX3_cost s m args below meth c0 H locs 0 0 Q (F0 m 81 ls []) := by
          intro  hf H locs hP hS ls hl
          unfold xo_X3_cost_J81 at hf
          refine lv_ldc hx hb hown (hts _ q1109) dX3_cost_81 ?_
          cases hf
          rw [hQ]; exact g_iret hx hb hr hlk hP hS dX3_cost_83
        refine lv_icmp_ne (tgt := 81) hx hb dX3_cost_56 (by decide) (fun c14 => ?_) (fun c14 => ?_)
        · have hf := ifF c14 hf
          exact J81  hf H locs hP hS ls (lv_sub hl [] rfl)
        · have hf := ifT c14 hf
          refine r_aload hx hb dX3_cost_59 (lv_at hl 0 rfl) ?_
          obtain ⟨v15, hv15, hf⟩ := bdP hf
          refine gp_X3_91_R E hX hD hP rfl hv15 dX3_cost_61 ?_
          refine lv_if_le (tgt := 81) hx hb dX3_cost_64 (by decide) (fun c16 => ?_) (fun c16 => ?_)
          · have hf := ifT c16 hf
            exact J81  hf H locs hP hS ls (lv_sub hl [] rfl)
          · have hf := ifF c16 hf
            refine r_aload hx hb dX3_cost_67 (lv_at hl 0 rfl) ?_
            obtain ⟨v17, hv17, hf⟩ := bdP hf
            refine gp_X3_88_R E hX hD hP rfl hv17 dX3_cost_69 ?_
            refine r_aload hx hb dX3_cost_72 (lv_at hl 0 rfl) ?_
            obtain ⟨v18, hv18, hf⟩ := bdP hf
            refine gp_X3_91_R E hX hD hP rfl hv18 dX3_cost_74 ?_
            refine lv_iadd hx hb dX3_cost_77 ?_
            refine lv_goto (tgt := 83) hx hb dX3_cost_78 (by decide) ?_
            cases hf
            rw [hQ]; exact g_iret hx hb hr hlk hP hS dX3_cost_83
      · have hf := ifT c10 hf
        exact J38  hf H locs hP hS ls (lv_sub hl [0] rfl)
theorem kxX3_cost (l : Launch) (D : va_G) (G : Nat → ClassId) {dsc : Nat → Option Dsc} {ad : Nat → Nat} {σ : Sto} {nr nw nu : Nat} (hD : XD dsc nr nw nu) {x1 : Int32} {x2 : Int32} {x3 : Int32} {r_ : Int32} {a_UNIT : Nat → Int32} (e_aI1170 : σ.2.2.1 1170 = a_UNIT) {n_r : Nat} (e_nN0 : nr = n_r) {p_road_hours : Nat → Int32} (e_pR2 : (fun k => σ.1 (6000 + 16 * k + 2)) = p_road_hours) {p_road_wait : Nat → Int32} (e_pR5 : (fun k => σ.1 (6000 + 16 * k + 5)) = p_road_wait) {p_road_number : Nat → Int32} (e_pR6 : (fun k => σ.1 (6000 + 16 * k + 6)) = p_road_number) {g_grid : Nat → Nat → Int32} (e_gG0 : (fun k => σ.2.2.1 (4000 + 16 * k)) = g_grid) (hf : xo_X3_cost a_UNIT n_r p_road_hours p_road_wait p_road_number g_grid x1 x2 x3 = some r_) : CtG l D G dsc ad yX3_cost (ws_ yX3_cost cX3_cost 5 (Option.some Jvm.ClassFile.FieldType.int)) rmX3_cost [.ref (ad 2000), .int x1, .int x2, .int x3] σ (some (.int r_)) σ := by
  subst e_aI1170
  subst e_nN0
  subst e_pR2
  subst e_pR5
  subst e_pR6
  subst e_gG0
  exact p_ctG (by decide +kernel) (Nat.le_of_ble_eq_true rfl) (fun p e s m below meth c0 ls A E hP hX hA hS hl => wkX3_cost E hX hD hA hf rfl hP hS hl)
/-! X6_end_TB (I)J -/
abbrev rmX6_end_TB : Room := { frames := 0, cells := 0, slots := 0, locals := 0 }
set_option maxHeartbeats 4000000 in
theorem wkX6_end_TB {x1 : Int32} {r_ : Int64} (E : EN p s m args meth c0 RX6 cX6_end 2 (Option.some Jvm.ClassFile.FieldType.long)) (hX : KX D G ad A s s.heap) (hD : XD dsc nr nw nu) (hA : ∀ q, PA dsc ad s.heap.size q → A q) (hf : xo_X6_end_TB x1 = some r_) (hQ : Q = MQ below (va_G1 (some (.long r_)) (fun t => PIC D clsA G dsc ad σ t.heap) A) args s 0 0 A) (hP : PIC D clsA G dsc ad σ H) (hS : va_S A s.heap H locs) (hl : lv_has ls 2 [(0, .ref (ad 1060)), (1, .int x1)]) : W p l e rmX6_end_TB s m args below meth c0 H locs 0 0 Q (F0 m 0 ls []) := by
  obtain ⟨⟨hx, hb, hml, hown, hts⟩, hr, hlk⟩ := id E
  unfold xo_X6_end_TB at hf
  refine lv_lconst hx hb dX6_end_0 lc_0 ?_
  cases hf
  rw [hQ]; exact g_lret hx hb hr hlk hP hS dX6_end_1
theorem kxX6_end_TB (l : Launch) (D : va_G) (G : Nat → ClassId) {dsc : Nat → Option Dsc} {ad : Nat → Nat} {σ : Sto} {nr nw nu : Nat} (hD : XD dsc nr nw nu) {x1 : Int32} {r_ : Int64} (hf : xo_X6_end_TB x1 = some r_) : CtG l D G dsc ad yX6_end (ws_ yX6_end cX6_end 2 (Option.some Jvm.ClassFile.FieldType.long)) rmX6_end_TB [.ref (ad 1060), .int x1] σ (some (.long r_)) σ := by
  exact p_ctG (by decide +kernel) (Nat.le_of_ble_eq_true rfl) (fun p e s m below meth c0 ls A E hP hX hA hS hl => wkX6_end_TB E hX hD hA hf rfl hP hS hl)
theorem gx_X3_20_2000 (E : EN p s m args meth c0 RX3 cc nL ret) (hX : KX D G ad A s s.heap) (hD : XD dsc nr nw nu) (hP : PIC D clsA G dsc ad σ H) (hdg : decode cc pc = .ok (.getfield 20, 3)) (kk : W p l e R s m args below meth c0 H locs cells slots Q (F0 m (pc + 3) ls (.ref (ad 2025) :: rest))) : W p l e R s m args below meth c0 H locs cells slots Q (F0 m pc ls (.ref (ad 2000) :: rest)) :=
  p_get E.1.1 E.1.2.1 E.1.2.2.2.2 in_X3 E.1.2.2.2.1 hX.1 hP (hD.1 _ _ dX_2000) rfl 1 (by decide) (E.1.2.2.2.2 _ q241) (fun _ h => h) rfl rfl hdg kk
theorem cx_X3_72_J2_size_Ld {rm : Room} {σ1 : Sto} {r : Int32} (E : EN p s m args meth c0 RX3 cc nL ret) (hX : KX D G ad A s s.heap) (hD : XD dsc nr nw nu) (hP : PIC D clsA G dsc ad σ H) (hS : va_S A s.heap H locs) (hA : ∀ q, PA dsc ad s.heap.size q → A q) (hM : CtG l D G dsc ad yJ2_size (ws_ yJ2_size cJ2_size 1 (Option.some Jvm.ClassFile.FieldType.int)) rm [.ref (ad 2025)] σ (some (.int r)) σ1) (hz : rm.cells = 0 ∧ rm.slots = 0) (hR : rm.frames + 1 ≤ R.frames ∧ 8 + (1 + 11) + rm.locals ≤ R.locals) (hcs : cells ≤ R.cells ∧ slots ≤ R.slots) (hsz : ls.size = nL) (hW : (rest.map fun v => v.category).sum ≤ 8) (hdg : decode cc pc = .ok (.invokevirtual 72, 3)) (kk : ∀ (H1 : Heap) (locs1 : List Loc), PIC D clsA G dsc ad σ1 H1 → va_S A s.heap H1 locs1 → W p l e R s m args below meth c0 H1 locs1 cells slots Q (F0 m (pc + 3) ls (.int r :: rest))) : W p l e R s m args below meth c0 H locs cells slots Q (F0 m pc ls (.ref (ad 2025) :: rest)) :=
  p_gV (As := []) (rest := rest) E.1 hX hP hS hA hM (cwV 0 E.1.2.2.2.2 (lw_V q995 q780 q781 q129 q782) rfl hz.1 hz.2 (by decide +kernel) hR) (hD.1 _ _ dX_2025) rfl rfl rfl hsz rfl hW hdg hcs kk
theorem gx_X3_36_2000 (E : EN p s m args meth c0 RX3 cc nL ret) (hX : KX D G ad A s s.heap) (hD : XD dsc nr nw nu) (hP : PIC D clsA G dsc ad σ H) (hdg : decode cc pc = .ok (.getfield 36, 3)) (kk : W p l e R s m args below meth c0 H locs cells slots Q (F0 m (pc + 3) ls (.ref (ad 2043) :: rest))) : W p l e R s m args below meth c0 H locs cells slots Q (F0 m pc ls (.ref (ad 2000) :: rest)) :=
  p_get E.1.1 E.1.2.1 E.1.2.2.2.2 in_X3 E.1.2.2.2.1 hX.1 hP (hD.1 _ _ dX_2000) rfl 6 (by decide) (E.1.2.2.2.2 _ q259) (fun _ h => h) rfl rfl hdg kk
/-! X3_unseen (II)I -/
abbrev rmX3_unseen : Room := { frames := 1, cells := 0, slots := 0, locals := 21 }
set_option maxHeartbeats 4000000 in
theorem wkX3_unseen {x1 : Int32} {x2 : Int32} {r_ : Int32} (E : EN p s m args meth c0 RX3 cX3_unseen 5 (Option.some Jvm.ClassFile.FieldType.int)) (hX : KX D G ad A s s.heap) (hD : XD dsc nr nw nu) (hA : ∀ q, PA dsc ad s.heap.size q → A q) (hf : xo_X3_unseen (σ.1 2027) (σ.2.2.1 1170) (σ.2.2.1 2043) x1 x2 = some r_) (hQ : Q = MQ below (va_G1 (some (.int r_)) (fun t => PIC D clsA G dsc ad σ t.heap) A) args s 0 0 A) (hP : PIC D clsA G dsc ad σ H) (hS : va_S A s.heap H locs) (hl : lv_has ls 5 [(0, .ref (ad 2000)), (1, .int x1), (2, .int x2)]) : W p l e rmX3_unseen s m args below meth c0 H locs 0 0 Q (F0 m 0 ls []) := by
  obtain ⟨⟨hx, hb, hml, hown, hts⟩, hr, hlk⟩ := id E
  unfold xo_X3_unseen at hf
  refine lv_iconst hx hb dX3_unseen_0 ic_0 ?_
  refine lv_istore_n (lv' := [(3, .int 0), (0, .ref (ad 2000)), (1, .int x1), (2, .int x2)]) hx hb dX3_unseen_1 rfl hl (by decide) rfl (fun ls hl => ?_)
  refine lv_iconst hx hb dX3_unseen_2 ic_0 ?_
  refine lv_istore (lv' := [(4, .int 0), (3, .int 0), (0, .ref (ad 2000)), (1, .int x1), (2, .int x2)]) hx hb dX3_unseen_3 hl (by decide) rfl (fun ls hl => ?_)
  have LP5 : ∀ (st5 : Int32 × Int32) (ex5 : (Int32)), loop (xo_X3_unseen_L5 (σ.1 2027) (σ.2.2.1 1170) (σ.2.2.1 2043) x1 x2) st5 = some ex5 → ∀ (H : Heap) (locs : List Loc), PIC D clsA G dsc ad σ H → va_S A s.heap H locs → ∀ (ls : Array Slot), lv_has ls 5 [(0, .ref (ad 2000)), (1, .int x1), (2, .int x2), (3, .int (st5.1)), (4, .int (st5.2))] → (∀ (y14 : Int32), ex5 = y14 → ∀ (H : Heap) (locs : List Loc), PIC D clsA G dsc ad σ H → va_S A s.heap H locs → ∀ (ls : Array Slot), lv_has ls 5 [(3, .int y14)] → W p l e rmX3_unseen s m args below meth c0 H locs 0 0 Q (F0 m 54 ls [])) → W p l e rmX3_unseen s m args below meth c0 H locs 0 0 Q (F0 m 5 ls []) := by
    refine loop_P (fun st5 ex5 o5 hf ih5 hx5 => ?_)
    obtain ⟨y1, y2⟩ := st5
    intro H locs (hP : PIC D clsA G dsc ad σ H) hS ls (hl : lv_has ls 5 [(0, .ref (ad 2000)), (1, .int x1), (2, .int x2), (3, .int y1), (4, .int y2)]) KE5_0
    dsimp only [xo_X3_unseen_L5] at hf
    refine lv_iload hx hb dX3_unseen_5 (lv_at hl 4 rfl) ?_
    refine lv_aload_n hx hb dX3_unseen_7 rfl (lv_at hl 0 rfl) ?_
    refine gx_X3_20_2000 E hX hD hP dX3_unseen_8 ?_
    obtain ⟨v3, u4, hf⟩ := bdP hf
    refine cx_X3_72_J2_size_Ld E hX hD hP hS hA (kxJ2_size_Ld l D G hD rfl u4) ⟨rfl, rfl⟩ ⟨Nat.le_of_ble_eq_true rfl, Nat.le_of_ble_eq_true rfl⟩ ⟨Nat.zero_le _, Nat.zero_le _⟩ hl.1 (Nat.le_of_ble_eq_true rfl) dX3_unseen_11 (fun H locs hP hS => ?_)
    refine lv_icmp_ge (tgt := 54) hx hb dX3_unseen_14 (by decide) (fun c5 => ?_) (fun c5 => ?_)
    · have hf := ifT c5 hf
      exact KE5_0 _ (hx5 _ (Option.some.inj hf).symm).symm H locs hP hS ls (lv_sub hl [3] rfl)
    · have hf := ifF c5 hf
      refine lv_aload_n hx hb dX3_unseen_17 rfl (lv_at hl 0 rfl) ?_
      refine gx_X3_36_2000 E hX hD hP dX3_unseen_18 ?_
      refine lv_iload_n hx hb dX3_unseen_21 rfl (lv_at hl 1 rfl) ?_
      obtain ⟨v6, hv6, hf⟩ := bdP hf
      refine p_iald hx hb hX.1 hP (hD.1 _ _ dX_2043) rfl hv6 dX3_unseen_22 ?_
      refine lv_iload hx hb dX3_unseen_23 (lv_at hl 4 rfl) ?_
      refine lv_ishr hx hb dX3_unseen_25 ?_
      refine lv_iconst hx hb dX3_unseen_26 ic_1 ?_
      refine lv_iand hx hb dX3_unseen_27 ?_
      refine lv_iconst hx hb dX3_unseen_28 ic_1 ?_
      have J48 : ∀ (y7 : Int32), xo_X3_unseen_J48 y2 y7 = some o5 → ∀ (H : Heap) (locs : List Loc), PIC D clsA G dsc ad σ H → va_S A s.heap H locs → ∀ (ls : Array Slot), lv_has ls 5 [(0, .ref (ad 2000)), (1, .int x1), (2, .int x2), (3, .int y7), (4, .int y2)] → W p l e rmX3_unseen s m args below meth c0 H locs 0 0 Q (F0 m 48 ls []) := by
        intro y7 hf H locs hP hS ls hl
        unfold xo_X3_unseen_J48 at hf
        obtain ⟨v8, hv8, hf⟩ := bdP hf
        refine lv_iinc (v := v8) (lv' := [(4, .int v8), (0, .ref (ad 2000)), (1, .int x1), (2, .int x2), (3, .int y7)]) hx hb dX3_unseen_48 hl (k := 4) rfl (Option.some.inj hv8) (by decide) rfl (fun ls hl => ?_)
        refine lv_goto (tgt := 5) hx hb dX3_unseen_51 (by decide) ?_
        exact ih5 _ (Option.some.inj hf).symm H locs hP hS ls (lv_sub hl [1, 2, 3, 4, 0] rfl) KE5_0
      refine lv_icmp_ne (tgt := 48) hx hb dX3_unseen_29 (by decide) (fun c9 => ?_) (fun c9 => ?_)
      · have hf := ifF c9 hf
        exact J48 y1 hf H locs hP hS ls (lv_sub hl [0, 1, 2, 3, 4] rfl)
      · have hf := ifT c9 hf
        refine lv_iload_n hx hb dX3_unseen_32 rfl (lv_at hl 2 rfl) ?_
        refine lv_iload hx hb dX3_unseen_33 (lv_at hl 4 rfl) ?_
        obtain ⟨v10, u11, hf⟩ := bdP hf
        refine cx_X3_76_X1_digit E hX hD hP hS hA (kxX1_digit l D G hD rfl u11) ⟨rfl, rfl⟩ ⟨Nat.le_of_ble_eq_true rfl, Nat.le_of_ble_eq_true rfl⟩ ⟨Nat.zero_le _, Nat.zero_le _⟩ hl.1 (Nat.le_of_ble_eq_true rfl) dX3_unseen_35 (fun H locs hP hS => ?_)
        refine lv_if_ne (tgt := 48) hx hb dX3_unseen_38 (by decide) (fun c12 => ?_) (fun c12 => ?_)
        · have hf := ifF c12 hf
          exact J48 y1 hf H locs hP hS ls (lv_sub hl [0, 1, 2, 3, 4] rfl)
        · have hf := ifT c12 hf
          refine lv_iload_n hx hb dX3_unseen_41 rfl (lv_at hl 3 rfl) ?_
          refine lv_iconst hx hb dX3_unseen_42 ic_1 ?_
          refine lv_iload hx hb dX3_unseen_43 (lv_at hl 4 rfl) ?_
          refine lv_ishl hx hb dX3_unseen_45 ?_
          refine lv_ior hx hb dX3_unseen_46 ?_
          obtain ⟨v13, hv13, hf⟩ := bdP hf
          refine nm_i (Option.some.inj hv13) ?_
          refine lv_istore_n (lv' := [(3, .int v13), (0, .ref (ad 2000)), (1, .int x1), (2, .int x2), (4, .int y2)]) hx hb dX3_unseen_47 rfl hl (by decide) rfl (fun ls hl => ?_)
          exact J48 v13 hf H locs hP hS ls (lv_sub hl [1, 2, 3, 0, 4] rfl)
  obtain ⟨ex5, hlp5, hf⟩ := bdP hf
  refine LP5 (0, 0) ex5 hlp5 H locs hP hS ls (lv_sub hl [2, 3, 4, 1, 0] rfl) ?_
  intro y14 hex5 H locs hP hS ls hl
  subst ex5
  refine lv_iload_n hx hb dX3_unseen_54 rfl (lv_at hl 0 rfl) ?_
  cases hf
  rw [hQ]; exact g_iret hx hb hr hlk hP hS dX3_unseen_55
theorem kxX3_unseen (l : Launch) (D : va_G) (G : Nat → ClassId) {dsc : Nat → Option Dsc} {ad : Nat → Nat} {σ : Sto} {nr nw nu : Nat} (hD : XD dsc nr nw nu) {x1 : Int32} {x2 : Int32} {r_ : Int32} {z_Ld_size : Int32} (e_zI2027 : σ.1 2027 = z_Ld_size) {a_UNIT : Nat → Int32} (e_aI1170 : σ.2.2.1 1170 = a_UNIT) {a_L_seen : Nat → Int32} (e_aI2043 : σ.2.2.1 2043 = a_L_seen) (hf : xo_X3_unseen z_Ld_size a_UNIT a_L_seen x1 x2 = some r_) : CtG l D G dsc ad yX3_unseen (ws_ yX3_unseen cX3_unseen 5 (Option.some Jvm.ClassFile.FieldType.int)) rmX3_unseen [.ref (ad 2000), .int x1, .int x2] σ (some (.int r_)) σ := by
  subst e_zI2027
  subst e_aI1170
  subst e_aI2043
  exact p_ctG (by decide +kernel) (Nat.le_of_ble_eq_true rfl) (fun p e s m below meth c0 ls A E hP hX hA hS hl => wkX3_unseen E hX hD hA hf rfl hP hS hl)
/-! J17_numberOfTrailingZeros (I)I -/
abbrev rmJ17_numberOfTrailingZeros : Room := { frames := 0, cells := 0, slots := 0, locals := 0 }
set_option maxHeartbeats 4000000 in
theorem wkJ17_numberOfTrailingZeros {x0 : Int32} {r_ : Int32} (E : EN p s m args meth c0 RJ17 cJ17_numberOfTrailingZeros 2 (Option.some Jvm.ClassFile.FieldType.int)) (hX : KX D G ad A s s.heap) (hD : XD dsc nr nw nu) (hA : ∀ q, PA dsc ad s.heap.size q → A q) (hf : xo_J17_numberOfTrailingZeros x0 = some r_) (hQ : Q = MQ below (va_G1 (some (.int r_)) (fun t => PIC D clsA G dsc ad σ t.heap) A) args s 0 0 A) (hP : PIC D clsA G dsc ad σ H) (hS : va_S A s.heap H locs) (hl : lv_has ls 2 [(0, .int x0)]) : W p l e rmJ17_numberOfTrailingZeros s m args below meth c0 H locs 0 0 Q (F0 m 0 ls []) := by
  obtain ⟨⟨hx, hb, hml, hown, hts⟩, hr, hlk⟩ := id E
  unfold xo_J17_numberOfTrailingZeros at hf
  refine lv_iload_n hx hb dJ17_numberOfTrailingZeros_0 rfl (lv_at hl 0 rfl) ?_
  refine lv_iconst hx hb dJ17_numberOfTrailingZeros_1 ic_m1 ?_
  refine lv_ixor hx hb dJ17_numberOfTrailingZeros_2 ?_
  refine lv_iload_n hx hb dJ17_numberOfTrailingZeros_3 rfl (lv_at hl 0 rfl) ?_
  refine lv_iconst hx hb dJ17_numberOfTrailingZeros_4 ic_1 ?_
  refine lv_isub hx hb dJ17_numberOfTrailingZeros_5 ?_
  refine lv_iand hx hb dJ17_numberOfTrailingZeros_6 ?_
  obtain ⟨v1, hv1, hf⟩ := bdP hf
  refine nm_i (Option.some.inj hv1) ?_
  refine lv_istore_n (lv' := [(0, .int v1)]) hx hb dJ17_numberOfTrailingZeros_7 rfl hl (by decide) rfl (fun ls hl => ?_)
  refine lv_iload_n hx hb dJ17_numberOfTrailingZeros_8 rfl (lv_at hl 0 rfl) ?_
  refine lv_if_gt (tgt := 17) hx hb dJ17_numberOfTrailingZeros_9 (by decide) (fun c2 => ?_) (fun c2 => ?_)
  · have hf := ifT c2 hf
    refine lv_iconst hx hb dJ17_numberOfTrailingZeros_17 ic_1 ?_
    refine lv_istore_n (lv' := [(1, .int 1), (0, .int v1)]) hx hb dJ17_numberOfTrailingZeros_18 rfl hl (by decide) rfl (fun ls hl => ?_)
    refine lv_iload_n hx hb dJ17_numberOfTrailingZeros_19 rfl (lv_at hl 1 rfl) ?_
    refine lv_ldcw hx hb hown (hts _ q1132) dJ17_numberOfTrailingZeros_20 ?_
    have J34 : ∀ (y3 : Int32) (y4 : Int32), xo_J17_numberOfTrailingZeros_J34 y3 y4 = some r_ → ∀ (H : Heap) (locs : List Loc), PIC D clsA G dsc ad σ H → va_S A s.heap H locs → ∀ (ls : Array Slot), lv_has ls 2 [(0, .int y3), (1, .int y4)] → W p l e rmJ17_numberOfTrailingZeros s m args below meth c0 H locs 0 0 Q (F0 m 34 ls []) := by
      intro y3 y4 hf H locs hP hS ls hl
      unfold xo_J17_numberOfTrailingZeros_J34 at hf
      refine lv_iload_n hx hb dJ17_numberOfTrailingZeros_34 rfl (lv_at hl 0 rfl) ?_
      refine lv_sipush hx hb dJ17_numberOfTrailingZeros_35 sp_256 ?_
      have J49 : ∀ (y5 : Int32) (y6 : Int32), xo_J17_numberOfTrailingZeros_J49 y5 y6 = some r_ → ∀ (H : Heap) (locs : List Loc), PIC D clsA G dsc ad σ H → va_S A s.heap H locs → ∀ (ls : Array Slot), lv_has ls 2 [(0, .int y5), (1, .int y6)] → W p l e rmJ17_numberOfTrailingZeros s m args below meth c0 H locs 0 0 Q (F0 m 49 ls []) := by
        intro y5 y6 hf H locs hP hS ls hl
        unfold xo_J17_numberOfTrailingZeros_J49 at hf
        refine lv_iload_n hx hb dJ17_numberOfTrailingZeros_49 rfl (lv_at hl 0 rfl) ?_
        refine lv_bipush hx hb dJ17_numberOfTrailingZeros_50 bp_16 ?_
        have J62 : ∀ (y7 : Int32) (y8 : Int32), xo_J17_numberOfTrailingZeros_J62 y7 y8 = some r_ → ∀ (H : Heap) (locs : List Loc), PIC D clsA G dsc ad σ H → va_S A s.heap H locs → ∀ (ls : Array Slot), lv_has ls 2 [(0, .int y7), (1, .int y8)] → W p l e rmJ17_numberOfTrailingZeros s m args below meth c0 H locs 0 0 Q (F0 m 62 ls []) := by
          intro y7 y8 hf H locs hP hS ls hl
          unfold xo_J17_numberOfTrailingZeros_J62 at hf
          refine lv_iload_n hx hb dJ17_numberOfTrailingZeros_62 rfl (lv_at hl 0 rfl) ?_
          refine lv_iconst hx hb dJ17_numberOfTrailingZeros_63 ic_4 ?_
          have J74 : ∀ (y9 : Int32) (y10 : Int32), xo_J17_numberOfTrailingZeros_J74 y9 y10 = some r_ → ∀ (H : Heap) (locs : List Loc), PIC D clsA G dsc ad σ H → va_S A s.heap H locs → ∀ (ls : Array Slot), lv_has ls 2 [(0, .int y9), (1, .int y10)] → W p l e rmJ17_numberOfTrailingZeros s m args below meth c0 H locs 0 0 Q (F0 m 74 ls []) := by
            intro y9 y10 hf H locs hP hS ls hl
            unfold xo_J17_numberOfTrailingZeros_J74 at hf
            refine lv_iload_n hx hb dJ17_numberOfTrailingZeros_74 rfl (lv_at hl 1 rfl) ?_
            refine lv_iload_n hx hb dJ17_numberOfTrailingZeros_75 rfl (lv_at hl 0 rfl) ?_
            refine lv_iconst hx hb dJ17_numberOfTrailingZeros_76 ic_1 ?_
            refine lv_iushr hx hb dJ17_numberOfTrailingZeros_77 rfl ?_
            refine lv_iadd hx hb dJ17_numberOfTrailingZeros_78 ?_
            cases hf
            rw [hQ]; exact g_iret hx hb hr hlk hP hS dJ17_numberOfTrailingZeros_79
          refine lv_icmp_le (tgt := 74) hx hb dJ17_numberOfTrailingZeros_64 (by decide) (fun c11 => ?_) (fun c11 => ?_)
          · have hf := ifT c11 hf
            exact J74 y7 y8 hf H locs hP hS ls (lv_sub hl [0, 1] rfl)
          · have hf := ifF c11 hf
            obtain ⟨v12, hv12, hf⟩ := bdP hf
            refine lv_iinc (v := v12) (lv' := [(1, .int v12), (0, .int y7)]) hx hb dJ17_numberOfTrailingZeros_67 hl (k := 1) rfl (Option.some.inj hv12) (by decide) rfl (fun ls hl => ?_)
            refine lv_iload_n hx hb dJ17_numberOfTrailingZeros_70 rfl (lv_at hl 1 rfl) ?_
            refine lv_iconst hx hb dJ17_numberOfTrailingZeros_71 ic_2 ?_
            refine lv_iushr hx hb dJ17_numberOfTrailingZeros_72 rfl ?_
            obtain ⟨v13, hv13, hf⟩ := bdP hf
            refine nm_i (Option.some.inj hv13) ?_
            refine lv_istore_n (lv' := [(0, .int v13), (1, .int v12)]) hx hb dJ17_numberOfTrailingZeros_73 rfl hl (by decide) rfl (fun ls hl => ?_)
            exact J74 v13 v12 hf H locs hP hS ls (lv_sub hl [0, 1] rfl)
        refine lv_icmp_le (tgt := 62) hx hb dJ17_numberOfTrailingZeros_52 (by decide) (fun c14 => ?_) (fun c14 => ?_)
        · have hf := ifT c14 hf
          exact J62 y5 y6 hf H locs hP hS ls (lv_sub hl [0, 1] rfl)
        · have hf := ifF c14 hf
          obtain ⟨v15, hv15, hf⟩ := bdP hf
          refine lv_iinc (v := v15) (lv' := [(1, .int v15), (0, .int y5)]) hx hb dJ17_numberOfTrailingZeros_55 hl (k := 1) rfl (Option.some.inj hv15) (by decide) rfl (fun ls hl => ?_)
          refine lv_iload_n hx hb dJ17_numberOfTrailingZeros_58 rfl (lv_at hl 1 rfl) ?_
          refine lv_iconst hx hb dJ17_numberOfTrailingZeros_59 ic_4 ?_
          refine lv_iushr hx hb dJ17_numberOfTrailingZeros_60 rfl ?_
          obtain ⟨v16, hv16, hf⟩ := bdP hf
          refine nm_i (Option.some.inj hv16) ?_
          refine lv_istore_n (lv' := [(0, .int v16), (1, .int v15)]) hx hb dJ17_numberOfTrailingZeros_61 rfl hl (by decide) rfl (fun ls hl => ?_)
          exact J62 v16 v15 hf H locs hP hS ls (lv_sub hl [0, 1] rfl)
      refine lv_icmp_le (tgt := 49) hx hb dJ17_numberOfTrailingZeros_38 (by decide) (fun c17 => ?_) (fun c17 => ?_)
      · have hf := ifT c17 hf
        exact J49 y3 y4 hf H locs hP hS ls (lv_sub hl [0, 1] rfl)
      · have hf := ifF c17 hf
        obtain ⟨v18, hv18, hf⟩ := bdP hf
        refine lv_iinc (v := v18) (lv' := [(1, .int v18), (0, .int y3)]) hx hb dJ17_numberOfTrailingZeros_41 hl (k := 1) rfl (Option.some.inj hv18) (by decide) rfl (fun ls hl => ?_)
        refine lv_iload_n hx hb dJ17_numberOfTrailingZeros_44 rfl (lv_at hl 1 rfl) ?_
        refine lv_bipush hx hb dJ17_numberOfTrailingZeros_45 bp_8 ?_
        refine lv_iushr hx hb dJ17_numberOfTrailingZeros_47 rfl ?_
        obtain ⟨v19, hv19, hf⟩ := bdP hf
        refine nm_i (Option.some.inj hv19) ?_
        refine lv_istore_n (lv' := [(0, .int v19), (1, .int v18)]) hx hb dJ17_numberOfTrailingZeros_48 rfl hl (by decide) rfl (fun ls hl => ?_)
        exact J49 v19 v18 hf H locs hP hS ls (lv_sub hl [0, 1] rfl)
    refine lv_icmp_le (tgt := 34) hx hb dJ17_numberOfTrailingZeros_23 (by decide) (fun c20 => ?_) (fun c20 => ?_)
    · have hf := ifT c20 hf
      exact J34 v1 1 hf H locs hP hS ls (lv_sub hl [1, 0] rfl)
    · have hf := ifF c20 hf
      obtain ⟨v21, hv21, hf⟩ := bdP hf
      refine lv_iinc (v := v21) (lv' := [(1, .int v21), (0, .int v1)]) hx hb dJ17_numberOfTrailingZeros_26 hl (k := 0) rfl (Option.some.inj hv21) (by decide) rfl (fun ls hl => ?_)
      refine lv_iload_n hx hb dJ17_numberOfTrailingZeros_29 rfl (lv_at hl 1 rfl) ?_
      refine lv_bipush hx hb dJ17_numberOfTrailingZeros_30 bp_16 ?_
      refine lv_iushr hx hb dJ17_numberOfTrailingZeros_32 rfl ?_
      obtain ⟨v22, hv22, hf⟩ := bdP hf
      refine nm_i (Option.some.inj hv22) ?_
      refine lv_istore_n (lv' := [(0, .int v22), (1, .int v21)]) hx hb dJ17_numberOfTrailingZeros_33 rfl hl (by decide) rfl (fun ls hl => ?_)
      exact J34 v22 v21 hf H locs hP hS ls (lv_sub hl [0, 1] rfl)
  · have hf := ifF c2 hf
    refine lv_iload_n hx hb dJ17_numberOfTrailingZeros_12 rfl (lv_at hl 0 rfl) ?_
    refine lv_bipush hx hb dJ17_numberOfTrailingZeros_13 bp_32 ?_
    refine lv_iand hx hb dJ17_numberOfTrailingZeros_15 ?_
    cases hf
    rw [hQ]; exact g_iret hx hb hr hlk hP hS dJ17_numberOfTrailingZeros_16
theorem kxJ17_numberOfTrailingZeros (l : Launch) (D : va_G) (G : Nat → ClassId) {dsc : Nat → Option Dsc} {ad : Nat → Nat} {σ : Sto} {nr nw nu : Nat} (hD : XD dsc nr nw nu) {x0 : Int32} {r_ : Int32} (hf : xo_J17_numberOfTrailingZeros x0 = some r_) : CtG l D G dsc ad yJ17_numberOfTrailingZeros (ws_ yJ17_numberOfTrailingZeros cJ17_numberOfTrailingZeros 2 (Option.some Jvm.ClassFile.FieldType.int)) rmJ17_numberOfTrailingZeros [.int x0] σ (some (.int r_)) σ := by
  exact p_ctG (by decide +kernel) (Nat.le_of_ble_eq_true rfl) (fun p e s m below meth c0 ls A E hP hX hA hS hl => wkJ17_numberOfTrailingZeros E hX hD hA hf rfl hP hS hl)
/-! X6_both_TB (JJ)J -/
abbrev rmX6_both_TB : Room := { frames := 0, cells := 0, slots := 0, locals := 0 }
set_option maxHeartbeats 4000000 in
theorem wkX6_both_TB {x1 : Int64} {x3 : Int64} {r_ : Int64} (E : EN p s m args meth c0 RX6 cX6_both 5 (Option.some Jvm.ClassFile.FieldType.long)) (hX : KX D G ad A s s.heap) (hD : XD dsc nr nw nu) (hA : ∀ q, PA dsc ad s.heap.size q → A q) (hf : xo_X6_both_TB x1 x3 = some r_) (hQ : Q = MQ below (va_G1 (some (.long r_)) (fun t => PIC D clsA G dsc ad σ t.heap) A) args s 0 0 A) (hP : PIC D clsA G dsc ad σ H) (hS : va_S A s.heap H locs) (hl : lv_has ls 5 [(0, .ref (ad 1060)), (1, .long x1), (3, .long x3)]) : W p l e rmX6_both_TB s m args below meth c0 H locs 0 0 Q (F0 m 0 ls []) := by
  obtain ⟨⟨hx, hb, hml, hown, hts⟩, hr, hlk⟩ := id E
  unfold xo_X6_both_TB at hf
  refine lv_lload_n hx hb dX6_both_0 rfl (lv_at hl 1 rfl) ?_
  refine lv_lload_n hx hb dX6_both_1 rfl (lv_at hl 2 rfl) ?_
  refine lv_ladd hx hb dX6_both_2 ?_
  cases hf
  rw [hQ]; exact g_lret hx hb hr hlk hP hS dX6_both_3
theorem kxX6_both_TB (l : Launch) (D : va_G) (G : Nat → ClassId) {dsc : Nat → Option Dsc} {ad : Nat → Nat} {σ : Sto} {nr nw nu : Nat} (hD : XD dsc nr nw nu) {x1 : Int64} {x3 : Int64} {r_ : Int64} (hf : xo_X6_both_TB x1 x3 = some r_) : CtG l D G dsc ad yX6_both (ws_ yX6_both cX6_both 5 (Option.some Jvm.ClassFile.FieldType.long)) rmX6_both_TB [.ref (ad 1060), .long x1, .long x3] σ (some (.long r_)) σ := by
  exact p_ctG (by decide +kernel) (Nat.le_of_ble_eq_true rfl) (fun p e s m below meth c0 ls A E hP hX hA hS hl => wkX6_both_TB E hX hD hA hf rfl hP hS hl)
theorem cx_X5_120_J17_numberOfTrailingZeros {rm : Room} {σ1 : Sto} {x0 : Int32} {r : Int32} (E : EN p s m args meth c0 RX5 cc nL ret) (hX : KX D G ad A s s.heap) (hD : XD dsc nr nw nu) (hP : PIC D clsA G dsc ad σ H) (hS : va_S A s.heap H locs) (hA : ∀ q, PA dsc ad s.heap.size q → A q) (hM : CtG l D G dsc ad yJ17_numberOfTrailingZeros (ws_ yJ17_numberOfTrailingZeros cJ17_numberOfTrailingZeros 2 (Option.some Jvm.ClassFile.FieldType.int)) rm [.int x0] σ (some (.int r)) σ1) (hz : rm.cells = 0 ∧ rm.slots = 0) (hR : rm.frames + 1 ≤ R.frames ∧ 8 + (2 + 11) + rm.locals ≤ R.locals) (hcs : cells ≤ R.cells ∧ slots ≤ R.slots) (hsz : ls.size = nL) (hW : (rest.map fun v => v.category).sum ≤ 8) (hdg : decode cc pc = .ok (.invokestatic 120, 3)) (kk : ∀ (H1 : Heap) (locs1 : List Loc), PIC D clsA G dsc ad σ1 H1 → va_S A s.heap H1 locs1 → W p l e R s m args below meth c0 H1 locs1 cells slots Q (F0 m (pc + 3) ls (.int r :: rest))) : W p l e R s m args below meth c0 H locs cells slots Q (F0 m pc ls (.int x0 :: rest)) :=
  p_gS (As := [.int x0]) (rest := rest) E.1 hX hP hS hA hM (va_cwS 1 E.1.2.2.2.2 (lw_S q1129 q1130 q161 q1131) rfl hz.1 hz.2 (by decide +kernel) hR) rfl hsz rfl hW hdg hcs kk
theorem cx_X5_125_X5_shown_TB {rm : Room} {σ1 : Sto} {x1 : Int32} {x2 : Int32} {x3 : Int32} {x4 : Int32} {x5 : Int32} {r : Int64} (E : EN p s m args meth c0 RX5 cc nL ret) (hX : KX D G ad A s s.heap) (hD : XD dsc nr nw nu) (hP : PIC D clsA G dsc ad σ H) (hS : va_S A s.heap H locs) (hA : ∀ q, PA dsc ad s.heap.size q → A q) (hM : CtG l D G dsc ad yX5_shown (ws_ yX5_shown cX5_shown 6 (Option.some Jvm.ClassFile.FieldType.long)) rm [.ref (ad 1060), .int x1, .int x2, .int x3, .int x4, .int x5] σ (some (.long r)) σ1) (hz : rm.cells = 0 ∧ rm.slots = 0) (hR : rm.frames + 1 ≤ R.frames ∧ 8 + (6 + 11) + rm.locals ≤ R.locals) (hcs : cells ≤ R.cells ∧ slots ≤ R.slots) (hsz : ls.size = nL) (hW : (rest.map fun v => v.category).sum ≤ 8) (hdg : decode cc pc = .ok (.invokevirtual 125, 3)) (kk : ∀ (H1 : Heap) (locs1 : List Loc), PIC D clsA G dsc ad σ1 H1 → va_S A s.heap H1 locs1 → W p l e R s m args below meth c0 H1 locs1 cells slots Q (F0 m (pc + 3) ls (.long r :: rest))) : W p l e R s m args below meth c0 H locs cells slots Q (F0 m pc ls (.int x5 :: .int x4 :: .int x3 :: .int x2 :: .int x1 :: .ref (ad 1060) :: rest)) :=
  p_gU (As := [.int x1, .int x2, .int x3, .int x4, .int x5]) (rest := rest) E.1 hX hP hS hA hM (cw_any (owner := "ShutPasses$Table") (x := ⟨"ShutPasses$Table", "shown", "(IIIII)J"⟩) (y := yX5_shown) (C := "ShutPasses$InMean") (index := 125) (own := RX5) 5 E.1.2.2.2.2 (lw_meth q1136) rfl hz.1 hz.2 (E.1.2.2.2.2 _ q1133) (E.1.2.2.2.2 _ q2281) (va_Decl.of (E.1.2.2.2.2 _ q1135) (E.1.2.2.2.2 _ q1136)) (va_Nw.use rfl (hX.2.1.2 ("ShutPasses$InMean", yX5_shown) (by decide +kernel))) (E.1.2.2.2.2 _ q1135) (E.1.2.2.2.2 _ q131) (by decide +kernel) hR) (hD.1 _ _ dX_1060) rfl rfl rfl hsz rfl hW hdg hcs kk
theorem gx_X5_23_1060 {v : Int32} (E : EN p s m args meth c0 RX5 cc nL ret) (hX : KX D G ad A s s.heap) (hD : XD dsc nr nw nu) (hP : PIC D clsA G dsc ad σ H) (hv : σ.1 1062 = v) (hdg : decode cc pc = .ok (.getfield 23, 3)) (kk : W p l e R s m args below meth c0 H locs cells slots Q (F0 m (pc + 3) ls (va_rf (drf ad 1050 v) :: rest))) : W p l e R s m args below meth c0 H locs cells slots Q (F0 m pc ls (.ref (ad 1060) :: rest)) :=
  p_get E.1.1 E.1.2.1 E.1.2.2.2.2 in_X6 E.1.2.2.2.1 hX.1 hP (hD.1 _ _ dX_1060) rfl 2 (by decide) (E.1.2.2.2.2 _ q363) (fun _ h => h) rfl (congrArg (fun z => va_rf (drf ad 1050 z)) hv) hdg kk
theorem gx_X5_46_1050 (E : EN p s m args meth c0 RX5 cc nL ret) (hX : KX D G ad A s s.heap) (hD : XD dsc nr nw nu) (hP : PIC D clsA G dsc ad σ H) (hdg : decode cc pc = .ok (.getfield 46, 3)) (kk : W p l e R s m args below meth c0 H locs cells slots Q (F0 m (pc + 3) ls (.ref (ad 1141) :: rest))) : W p l e R s m args below meth c0 H locs cells slots Q (F0 m pc ls (.ref (ad 1050) :: rest)) :=
  p_getN E.1.1 E.1.2.1 E.1.2.2.2.2 in_X4 E.1.2.2.2.1 hX.1 hP (hD.1 _ _ dX_1050) rfl 1 (by decide) (hX.2.1.1 _ q329 rfl) (fun _ h => h) rfl rfl hdg kk
theorem cx_X5_129_X1_with {rm : Room} {σ1 : Sto} {x0 : Int32} {x1 : Int32} {x2 : Int32} {r : Int32} (E : EN p s m args meth c0 RX5 cc nL ret) (hX : KX D G ad A s s.heap) (hD : XD dsc nr nw nu) (hP : PIC D clsA G dsc ad σ H) (hS : va_S A s.heap H locs) (hA : ∀ q, PA dsc ad s.heap.size q → A q) (hM : CtG l D G dsc ad yX1_with (ws_ yX1_with cX1_with 3 (Option.some Jvm.ClassFile.FieldType.int)) rm [.int x0, .int x1, .int x2] σ (some (.int r)) σ1) (hz : rm.cells = 0 ∧ rm.slots = 0) (hR : rm.frames + 1 ≤ R.frames ∧ 8 + (3 + 11) + rm.locals ≤ R.locals) (hcs : cells ≤ R.cells ∧ slots ≤ R.slots) (hsz : ls.size = nL) (hW : (rest.map fun v => v.category).sum ≤ 8) (hdg : decode cc pc = .ok (.invokestatic 129, 3)) (kk : ∀ (H1 : Heap) (locs1 : List Loc), PIC D clsA G dsc ad σ1 H1 → va_S A s.heap H1 locs1 → W p l e R s m args below meth c0 H1 locs1 cells slots Q (F0 m (pc + 3) ls (.int r :: rest))) : W p l e R s m args below meth c0 H locs cells slots Q (F0 m pc ls (.int x2 :: .int x1 :: .int x0 :: rest)) :=
  p_gSN (As := [.int x0, .int x1, .int x2]) (rest := rest) E.1 hX hP hS hA hM ⟨va_cnB 3 E.1.2.2.2.2 (lw_meth q1139) rfl hz.1 hz.2 (hX.2.1.1 _ q1137 rfl) (E.1.2.2.2.2 _ q124) (by decide +kernel) hR, (E.1.2.2.2.2 _ q1138), trivial⟩ rfl hsz rfl hW hdg hcs kk
theorem gx_X5_19_1060 {v : Int64} (E : EN p s m args meth c0 RX5 cc nL ret) (hX : KX D G ad A s s.heap) (hD : XD dsc nr nw nu) (hP : PIC D clsA G dsc ad σ H) (hv : σ.2.1 1061 = v) (hdg : decode cc pc = .ok (.getfield 19, 3)) (kk : W p l e R s m args below meth c0 H locs cells slots Q (F0 m (pc + 3) ls (.long v :: rest))) : W p l e R s m args below meth c0 H locs cells slots Q (F0 m pc ls (.ref (ad 1060) :: rest)) :=
  p_get E.1.1 E.1.2.1 E.1.2.2.2.2 in_X6 E.1.2.2.2.1 hX.1 hP (hD.1 _ _ dX_1060) rfl 1 (by decide) (E.1.2.2.2.2 _ q353) (fun _ h => h) rfl (congrArg Value.long hv) hdg kk
theorem cx_X5_132_X6_both_TB {rm : Room} {σ1 : Sto} {x1 : Int64} {x3 : Int64} {r : Int64} (E : EN p s m args meth c0 RX5 cc nL ret) (hX : KX D G ad A s s.heap) (hD : XD dsc nr nw nu) (hP : PIC D clsA G dsc ad σ H) (hS : va_S A s.heap H locs) (hA : ∀ q, PA dsc ad s.heap.size q → A q) (hM : CtG l D G dsc ad yX6_both (ws_ yX6_both cX6_both 5 (Option.some Jvm.ClassFile.FieldType.long)) rm [.ref (ad 1060), .long x1, .long x3] σ (some (.long r)) σ1) (hz : rm.cells = 0 ∧ rm.slots = 0) (hR : rm.frames + 1 ≤ R.frames ∧ 8 + (5 + 11) + rm.locals ≤ R.locals) (hcs : cells ≤ R.cells ∧ slots ≤ R.slots) (hsz : ls.size = nL) (hW : (rest.map fun v => v.category).sum ≤ 8) (hdg : decode cc pc = .ok (.invokevirtual 132, 3)) (kk : ∀ (H1 : Heap) (locs1 : List Loc), PIC D clsA G dsc ad σ1 H1 → va_S A s.heap H1 locs1 → W p l e R s m args below meth c0 H1 locs1 cells slots Q (F0 m (pc + 3) ls (.long r :: rest))) : W p l e R s m args below meth c0 H locs cells slots Q (F0 m pc ls (.long x3 :: .long x1 :: .ref (ad 1060) :: rest)) :=
  p_gU (As := [.long x1, .long x3]) (rest := rest) E.1 hX hP hS hA hM (cw_any (owner := "ShutPasses$Table") (x := ⟨"ShutPasses$Table", "both", "(JJ)J"⟩) (y := yX6_both) (C := "ShutPasses$InMean") (index := 132) (own := RX5) 2 E.1.2.2.2.2 (lw_meth q1151) rfl hz.1 hz.2 (E.1.2.2.2.2 _ q1140) (E.1.2.2.2.2 _ q1142) (va_Decl.abs (hX.2.1.1 _ q1141 rfl)) (E.1.2.2.2.2 _ q1149) (E.1.2.2.2.2 _ q1150) (E.1.2.2.2.2 _ q132) (by decide +kernel) hR) (hD.1 _ _ dX_1060) rfl rfl rfl hsz rfl hW hdg hcs kk
theorem cx_X5_117_X5_arrived_TB {rm : Room} {σ1 : Sto} {x1 : Int32} {x2 : Int32} {r : Int64} (E : EN p s m args meth c0 RX5 cc nL ret) (hX : KX D G ad A s s.heap) (hD : XD dsc nr nw nu) (hP : PIC D clsA G dsc ad σ H) (hS : va_S A s.heap H locs) (hA : ∀ q, PA dsc ad s.heap.size q → A q) (hM : CtG l D G dsc ad yX5_arrived (ws_ yX5_arrived cX5_arrived 3 (Option.some Jvm.ClassFile.FieldType.long)) rm [.ref (ad 1060), .int x1, .int x2] σ (some (.long r)) σ1) (hz : rm.cells = 0 ∧ rm.slots = 0) (hR : rm.frames + 1 ≤ R.frames ∧ 8 + (3 + 11) + rm.locals ≤ R.locals) (hcs : cells ≤ R.cells ∧ slots ≤ R.slots) (hsz : ls.size = nL) (hW : (rest.map fun v => v.category).sum ≤ 8) (hdg : decode cc pc = .ok (.invokevirtual 117, 3)) (kk : ∀ (H1 : Heap) (locs1 : List Loc), PIC D clsA G dsc ad σ1 H1 → va_S A s.heap H1 locs1 → W p l e R s m args below meth c0 H1 locs1 cells slots Q (F0 m (pc + 3) ls (.long r :: rest))) : W p l e R s m args below meth c0 H locs cells slots Q (F0 m pc ls (.int x2 :: .int x1 :: .ref (ad 1060) :: rest)) :=
  p_gU (As := [.int x1, .int x2]) (rest := rest) E.1 hX hP hS hA hM (cw_any (owner := "ShutPasses$Table") (x := ⟨"ShutPasses$Table", "arrived", "(II)J"⟩) (y := yX5_arrived) (C := "ShutPasses$InMean") (index := 117) (own := RX5) 2 E.1.2.2.2.2 (lw_meth q1128) rfl hz.1 hz.2 (E.1.2.2.2.2 _ q1125) (E.1.2.2.2.2 _ q2280) (va_Decl.of (E.1.2.2.2.2 _ q1127) (E.1.2.2.2.2 _ q1128)) (va_Nw.use rfl (hX.2.1.2 ("ShutPasses$InMean", yX5_arrived) (by decide +kernel))) (E.1.2.2.2.2 _ q1127) (E.1.2.2.2.2 _ q131) (by decide +kernel) hR) (hD.1 _ _ dX_1060) rfl rfl rfl hsz rfl hW hdg hcs kk
theorem cx_X5_114_X5_over_TB {rm : Room} {σ1 : Sto} {x1 : Int32} {x2 : Int32} {x3 : Int32} {r : Int64} (E : EN p s m args meth c0 RX5 cc nL ret) (hX : KX D G ad A s s.heap) (hD : XD dsc nr nw nu) (hP : PIC D clsA G dsc ad σ H) (hS : va_S A s.heap H locs) (hA : ∀ q, PA dsc ad s.heap.size q → A q) (hM : CtG l D G dsc ad yX5_over (ws_ yX5_over cX5_over 9 (Option.some Jvm.ClassFile.FieldType.long)) rm [.ref (ad 1060), .int x1, .int x2, .int x3] σ (some (.long r)) σ1) (hz : rm.cells = 0 ∧ rm.slots = 0) (hR : rm.frames + 1 ≤ R.frames ∧ 8 + (9 + 11) + rm.locals ≤ R.locals) (hcs : cells ≤ R.cells ∧ slots ≤ R.slots) (hsz : ls.size = nL) (hW : (rest.map fun v => v.category).sum ≤ 8) (hdg : decode cc pc = .ok (.invokevirtual 114, 3)) (kk : ∀ (H1 : Heap) (locs1 : List Loc), PIC D clsA G dsc ad σ1 H1 → va_S A s.heap H1 locs1 → W p l e R s m args below meth c0 H1 locs1 cells slots Q (F0 m (pc + 3) ls (.long r :: rest))) : W p l e R s m args below meth c0 H locs cells slots Q (F0 m pc ls (.int x3 :: .int x2 :: .int x1 :: .ref (ad 1060) :: rest)) :=
  p_gU (As := [.int x1, .int x2, .int x3]) (rest := rest) E.1 hX hP hS hA hM (cw_any (owner := "ShutPasses$Table") (x := ⟨"ShutPasses$Table", "over", "(III)J"⟩) (y := yX5_over) (C := "ShutPasses$InMean") (index := 114) (own := RX5) 3 E.1.2.2.2.2 (lw_meth q1124) rfl hz.1 hz.2 (E.1.2.2.2.2 _ q1118) (E.1.2.2.2.2 _ q1120) (va_Decl.of (E.1.2.2.2.2 _ q1119) (E.1.2.2.2.2 _ q1124)) (E.1.2.2.2.2 _ q1122) (E.1.2.2.2.2 _ q1119) (E.1.2.2.2.2 _ q131) (by decide +kernel) hR) (hD.1 _ _ dX_1060) rfl rfl rfl hsz rfl hW hdg hcs kk
theorem gx_X5_3_1060 (E : EN p s m args meth c0 RX5 cc nL ret) (hX : KX D G ad A s s.heap) (hD : XD dsc nr nw nu) (hP : PIC D clsA G dsc ad σ H) (hdg : decode cc pc = .ok (.getfield 3, 3)) (kk : W p l e R s m args below meth c0 H locs cells slots Q (F0 m (pc + 3) ls (.ref (ad 1000) :: rest))) : W p l e R s m args below meth c0 H locs cells slots Q (F0 m pc ls (.ref (ad 1060) :: rest)) :=
  p_get E.1.1 E.1.2.1 E.1.2.2.2.2 in_X6 E.1.2.2.2.1 hX.1 hP (hD.1 _ _ dX_1060) rfl 3 (by decide) (E.1.2.2.2.2 _ q364) (fun _ h => h) rfl rfl hdg kk
theorem gx_X5_27_1000 (E : EN p s m args meth c0 RX5 cc nL ret) (hX : KX D G ad A s s.heap) (hD : XD dsc nr nw nu) (hP : PIC D clsA G dsc ad σ H) (hdg : decode cc pc = .ok (.getfield 27, 3)) (kk : W p l e R s m args below meth c0 H locs cells slots Q (F0 m (pc + 3) ls (.ref (ad 2000) :: rest))) : W p l e R s m args below meth c0 H locs cells slots Q (F0 m pc ls (.ref (ad 1000) :: rest)) :=
  p_getN E.1.1 E.1.2.1 E.1.2.2.2.2 in_X1 E.1.2.2.2.1 hX.1 hP (hD.1 _ _ dX_1000) rfl 5 (by decide) (hX.2.1.1 _ q513 rfl) (fun _ h => h) rfl rfl hdg kk
theorem gx_X5_67_2000 {v : Int32} (E : EN p s m args meth c0 RX5 cc nL ret) (hX : KX D G ad A s s.heap) (hD : XD dsc nr nw nu) (hP : PIC D clsA G dsc ad σ H) (hv : σ.1 2013 = v) (hdg : decode cc pc = .ok (.getfield 67, 3)) (kk : W p l e R s m args below meth c0 H locs cells slots Q (F0 m (pc + 3) ls (.int v :: rest))) : W p l e R s m args below meth c0 H locs cells slots Q (F0 m pc ls (.ref (ad 2000) :: rest)) :=
  p_getN E.1.1 E.1.2.1 E.1.2.2.2.2 in_X3 E.1.2.2.2.1 hX.1 hP (hD.1 _ _ dX_2000) rfl 13 (by decide) (hX.2.1.1 _ q284 rfl) (fun _ h => h) rfl (congrArg Value.int hv) hdg kk
theorem cx_X5_74_X3_unseen {rm : Room} {σ1 : Sto} {x1 : Int32} {x2 : Int32} {r : Int32} (E : EN p s m args meth c0 RX5 cc nL ret) (hX : KX D G ad A s s.heap) (hD : XD dsc nr nw nu) (hP : PIC D clsA G dsc ad σ H) (hS : va_S A s.heap H locs) (hA : ∀ q, PA dsc ad s.heap.size q → A q) (hM : CtG l D G dsc ad yX3_unseen (ws_ yX3_unseen cX3_unseen 5 (Option.some Jvm.ClassFile.FieldType.int)) rm [.ref (ad 2000), .int x1, .int x2] σ (some (.int r)) σ1) (hz : rm.cells = 0 ∧ rm.slots = 0) (hR : rm.frames + 1 ≤ R.frames ∧ 8 + (5 + 11) + rm.locals ≤ R.locals) (hcs : cells ≤ R.cells ∧ slots ≤ R.slots) (hsz : ls.size = nL) (hW : (rest.map fun v => v.category).sum ≤ 8) (hdg : decode cc pc = .ok (.invokevirtual 74, 3)) (kk : ∀ (H1 : Heap) (locs1 : List Loc), PIC D clsA G dsc ad σ1 H1 → va_S A s.heap H1 locs1 → W p l e R s m args below meth c0 H1 locs1 cells slots Q (F0 m (pc + 3) ls (.int r :: rest))) : W p l e R s m args below meth c0 H locs cells slots Q (F0 m pc ls (.int x2 :: .int x1 :: .ref (ad 2000) :: rest)) :=
  p_gV (As := [.int x1, .int x2]) (rest := rest) E.1 hX hP hS hA hM (cwV 2 E.1.2.2.2.2 (lw_V q1081 q1082 q1083 q126 q1084) rfl hz.1 hz.2 (by decide +kernel) hR) (hD.1 _ _ dX_2000) rfl rfl rfl hsz rfl hW hdg hcs kk
theorem cx_X5_81_X5_value_TB {rm : Room} {σ1 : Sto} {x1 : Int32} {x2 : Int32} {r : Int64} (E : EN p s m args meth c0 RX5 cc nL ret) (hX : KX D G ad A s s.heap) (hD : XD dsc nr nw nu) (hP : PIC D clsA G dsc ad σ H) (hS : va_S A s.heap H locs) (hA : ∀ q, PA dsc ad s.heap.size q → A q) (hM : CtG l D G dsc ad yX5_value (ws_ yX5_value cX5_value 3 (Option.some Jvm.ClassFile.FieldType.long)) rm [.ref (ad 1060), .int x1, .int x2] σ (some (.long r)) σ1) (hz : rm.cells = 0 ∧ rm.slots = 0) (hR : rm.frames + 1 ≤ R.frames ∧ 8 + (3 + 11) + rm.locals ≤ R.locals) (hcs : cells ≤ R.cells ∧ slots ≤ R.slots) (hsz : ls.size = nL) (hW : (rest.map fun v => v.category).sum ≤ 8) (hdg : decode cc pc = .ok (.invokevirtual 81, 3)) (kk : ∀ (H1 : Heap) (locs1 : List Loc), PIC D clsA G dsc ad σ1 H1 → va_S A s.heap H1 locs1 → W p l e R s m args below meth c0 H1 locs1 cells slots Q (F0 m (pc + 3) ls (.long r :: rest))) : W p l e R s m args below meth c0 H locs cells slots Q (F0 m pc ls (.int x2 :: .int x1 :: .ref (ad 1060) :: rest)) :=
  p_gU (As := [.int x1, .int x2]) (rest := rest) E.1 hX hP hS hA hM (cw_any (owner := "ShutPasses$Table") (x := ⟨"ShutPasses$Table", "value", "(II)J"⟩) (y := yX5_value) (C := "ShutPasses$InMean") (index := 81) (own := RX5) 2 E.1.2.2.2.2 (lw_meth q1096) rfl hz.1 hz.2 (E.1.2.2.2.2 _ q1090) (E.1.2.2.2.2 _ q1092) (va_Decl.of (E.1.2.2.2.2 _ q1091) (E.1.2.2.2.2 _ q1096)) (E.1.2.2.2.2 _ q1094) (E.1.2.2.2.2 _ q1091) (E.1.2.2.2.2 _ q131) (by decide +kernel) hR) (hD.1 _ _ dX_1060) rfl rfl rfl hsz rfl hW hdg hcs kk
theorem cx_X5_70_X6_end_TB {rm : Room} {σ1 : Sto} {x1 : Int32} {r : Int64} (E : EN p s m args meth c0 RX5 cc nL ret) (hX : KX D G ad A s s.heap) (hD : XD dsc nr nw nu) (hP : PIC D clsA G dsc ad σ H) (hS : va_S A s.heap H locs) (hA : ∀ q, PA dsc ad s.heap.size q → A q) (hM : CtG l D G dsc ad yX6_end (ws_ yX6_end cX6_end 2 (Option.some Jvm.ClassFile.FieldType.long)) rm [.ref (ad 1060), .int x1] σ (some (.long r)) σ1) (hz : rm.cells = 0 ∧ rm.slots = 0) (hR : rm.frames + 1 ≤ R.frames ∧ 8 + (2 + 11) + rm.locals ≤ R.locals) (hcs : cells ≤ R.cells ∧ slots ≤ R.slots) (hsz : ls.size = nL) (hW : (rest.map fun v => v.category).sum ≤ 8) (hdg : decode cc pc = .ok (.invokevirtual 70, 3)) (kk : ∀ (H1 : Heap) (locs1 : List Loc), PIC D clsA G dsc ad σ1 H1 → va_S A s.heap H1 locs1 → W p l e R s m args below meth c0 H1 locs1 cells slots Q (F0 m (pc + 3) ls (.long r :: rest))) : W p l e R s m args below meth c0 H locs cells slots Q (F0 m pc ls (.int x1 :: .ref (ad 1060) :: rest)) :=
  p_gU (As := [.int x1]) (rest := rest) E.1 hX hP hS hA hM (cw_any (owner := "ShutPasses$Table") (x := ⟨"ShutPasses$Table", "end", "(I)J"⟩) (y := yX6_end) (C := "ShutPasses$InMean") (index := 70) (own := RX5) 1 E.1.2.2.2.2 (lw_meth q1070) rfl hz.1 hz.2 (E.1.2.2.2.2 _ q1065) (E.1.2.2.2.2 _ q1067) (va_Decl.abs (hX.2.1.1 _ q1066 rfl)) (E.1.2.2.2.2 _ q1071) (E.1.2.2.2.2 _ q1069) (E.1.2.2.2.2 _ q132) (by decide +kernel) hR) (hD.1 _ _ dX_1060) rfl rfl rfl hsz rfl hW hdg hcs kk
abbrev rmG_T_TB (d : Nat) : Room := { frames := 2 + d, cells := 0, slots := 0, locals := 45 + d * 28 }
/-! X5_over_TB (III)J -/
abbrev rmX5_over_TB : Room := rmG_T_TB 40
set_option maxHeartbeats 4000000 in
theorem wkX5_over_TB {x1 : Int32} {x2 : Int32} {x3 : Int32} {r_ : Int64} {d : Nat} {f_X5_over : Int32 → Int32 → Int32 → Option (Int64)} {f_X5_shown : Int32 → Int32 → Int32 → Int32 → Int32 → Option (Int64)} {f_X5_arrived : Int32 → Int32 → Option (Int64)} (hrec_X5_over : ∀ (σ1 : Sto) {x1 : Int32} {x2 : Int32} {x3 : Int32} {r_ : Int64} (_ : σ1.1 1062 = (σ.1 1062)) (_ : σ1.1 2013 = (σ.1 2013)) (_ : σ1.1 2027 = (σ.1 2027)) (_ : σ1.2.1 1061 = (σ.2.1 1061)) (_ : σ1.2.2.1 1170 = (σ.2.2.1 1170)) (_ : σ1.2.2.1 2043 = (σ.2.2.1 2043)) (_ : σ1.2.2.2.1 1141 = (σ.2.2.2.1 1141)) (_ : σ1.2.2.2.1 1150 = (σ.2.2.2.1 1150)), f_X5_over x1 x2 x3 = some r_ → CtG l D G dsc ad yX5_over (ws_ yX5_over cX5_over 9 (Option.some Jvm.ClassFile.FieldType.long)) (rmG_T_TB d) [.ref (ad 1060), .int x1, .int x2, .int x3] σ1 (some (.long r_)) σ1) (hrec_X5_shown : ∀ (σ1 : Sto) {x1 : Int32} {x2 : Int32} {x3 : Int32} {x4 : Int32} {x5 : Int32} {r_ : Int64} (_ : σ1.1 1062 = (σ.1 1062)) (_ : σ1.1 2013 = (σ.1 2013)) (_ : σ1.1 2027 = (σ.1 2027)) (_ : σ1.2.1 1061 = (σ.2.1 1061)) (_ : σ1.2.2.1 1170 = (σ.2.2.1 1170)) (_ : σ1.2.2.1 2043 = (σ.2.2.1 2043)) (_ : σ1.2.2.2.1 1141 = (σ.2.2.2.1 1141)) (_ : σ1.2.2.2.1 1150 = (σ.2.2.2.1 1150)), f_X5_shown x1 x2 x3 x4 x5 = some r_ → CtG l D G dsc ad yX5_shown (ws_ yX5_shown cX5_shown 6 (Option.some Jvm.ClassFile.FieldType.long)) (rmG_T_TB d) [.ref (ad 1060), .int x1, .int x2, .int x3, .int x4, .int x5] σ1 (some (.long r_)) σ1) (hrec_X5_arrived : ∀ (σ1 : Sto) {x1 : Int32} {x2 : Int32} {r_ : Int64} (_ : σ1.1 1062 = (σ.1 1062)) (_ : σ1.1 2013 = (σ.1 2013)) (_ : σ1.1 2027 = (σ.1 2027)) (_ : σ1.2.1 1061 = (σ.2.1 1061)) (_ : σ1.2.2.1 1170 = (σ.2.2.1 1170)) (_ : σ1.2.2.1 2043 = (σ.2.2.1 2043)) (_ : σ1.2.2.2.1 1141 = (σ.2.2.2.1 1141)) (_ : σ1.2.2.2.1 1150 = (σ.2.2.2.1 1150)), f_X5_arrived x1 x2 = some r_ → CtG l D G dsc ad yX5_arrived (ws_ yX5_arrived cX5_arrived 3 (Option.some Jvm.ClassFile.FieldType.long)) (rmG_T_TB d) [.ref (ad 1060), .int x1, .int x2] σ1 (some (.long r_)) σ1) (E : EN p s m args meth c0 RX5 cX5_over 9 (Option.some Jvm.ClassFile.FieldType.long)) (hX : KX D G ad A s s.heap) (hD : XD dsc nr nw nu) (hA : ∀ q, PA dsc ad s.heap.size q → A q) (hf : xo_X5_over_TB_B f_X5_over f_X5_shown f_X5_arrived (σ.1 1062) (σ.1 2013) (σ.1 2027) (σ.2.1 1061) (σ.2.2.1 1170) (σ.2.2.1 2043) (σ.2.2.2.1 1141) (σ.2.2.2.1 1150) x1 x2 x3 = some r_) (hQ : Q = MQ below (va_G1 (some (.long r_)) (fun t => PIC D clsA G dsc ad σ t.heap) A) args s 0 0 A) (hP : PIC D clsA G dsc ad σ H) (hS : va_S A s.heap H locs) (hl : lv_has ls 9 [(0, .ref (ad 1060)), (1, .int x1), (2, .int x2), (3, .int x3)]) : W p l e (rmG_T_TB (d + 1)) s m args below meth c0 H locs 0 0 Q (F0 m 0 ls []) := by
  obtain ⟨⟨hx, hb, hml, hown, hts⟩, hr, hlk⟩ := id E
  unfold xo_X5_over_TB_B at hf
  refine lv_iload_n hx hb dX5_over_0 rfl (lv_at hl 1 rfl) ?_
  refine lv_if_ne (tgt := 11) hx hb dX5_over_1 (by decide) (fun c1 => ?_) (fun c1 => ?_)
  · have hf := ifF c1 hf
    refine lv_iload_n hx hb dX5_over_11 rfl (lv_at hl 1 rfl) ?_
    obtain ⟨v2, u3, hf⟩ := bdP hf
    refine cx_X5_120_J17_numberOfTrailingZeros E hX hD hP hS hA (kxJ17_numberOfTrailingZeros l D G hD u3) ⟨rfl, rfl⟩ ⟨by dsimp only [rmG_T_TB, rmJ17_numberOfTrailingZeros]; omega, by dsimp only [rmG_T_TB, rmJ17_numberOfTrailingZeros]; omega⟩ ⟨Nat.zero_le _, Nat.zero_le _⟩ hl.1 (Nat.le_of_ble_eq_true rfl) dX5_over_12 (fun H locs hP hS => ?_)
    refine lv_istore (lv' := [(4, .int v2), (0, .ref (ad 1060)), (1, .int x1), (2, .int x2), (3, .int x3)]) hx hb dX5_over_15 hl (by decide) rfl (fun ls hl => ?_)
    refine lv_aload_n hx hb dX5_over_17 rfl (lv_at hl 1 rfl) ?_
    refine lv_iload_n hx hb dX5_over_18 rfl (lv_at hl 2 rfl) ?_
    refine lv_iload hx hb dX5_over_19 (lv_at hl 0 rfl) ?_
    refine lv_iconst hx hb dX5_over_21 ic_1 ?_
    refine lv_iload_n hx hb dX5_over_22 rfl (lv_at hl 3 rfl) ?_
    refine lv_iload_n hx hb dX5_over_23 rfl (lv_at hl 4 rfl) ?_
    obtain ⟨v4, u5, hf⟩ := bdP hf
    refine cx_X5_125_X5_shown_TB E hX hD hP hS hA (hrec_X5_shown _ rfl rfl rfl rfl rfl rfl rfl rfl u5) ⟨rfl, rfl⟩ ⟨Nat.le_refl _, by dsimp only [rmG_T_TB]; omega⟩ ⟨Nat.zero_le _, Nat.zero_le _⟩ hl.1 (Nat.le_of_ble_eq_true rfl) dX5_over_24 (fun H locs hP hS => ?_)
    refine lv_lstore (lv' := [(5, .long v4), (4, .int v2), (0, .ref (ad 1060)), (1, .int x1), (2, .int x2), (3, .int x3)]) hx hb dX5_over_27 hl (by decide) rfl (fun ls hl => ?_)
    refine lv_aload_n hx hb dX5_over_29 rfl (lv_at hl 2 rfl) ?_
    refine lv_iload_n hx hb dX5_over_30 rfl (lv_at hl 3 rfl) ?_
    refine lv_iload hx hb dX5_over_31 (lv_at hl 1 rfl) ?_
    refine lv_iconst hx hb dX5_over_33 ic_2 ?_
    refine lv_iload_n hx hb dX5_over_34 rfl (lv_at hl 4 rfl) ?_
    refine lv_iload_n hx hb dX5_over_35 rfl (lv_at hl 5 rfl) ?_
    obtain ⟨v6, u7, hf⟩ := bdP hf
    refine cx_X5_125_X5_shown_TB E hX hD hP hS hA (hrec_X5_shown _ rfl rfl rfl rfl rfl rfl rfl rfl u7) ⟨rfl, rfl⟩ ⟨Nat.le_refl _, by dsimp only [rmG_T_TB]; omega⟩ ⟨Nat.zero_le _, Nat.zero_le _⟩ hl.1 (Nat.le_of_ble_eq_true rfl) dX5_over_36 (fun H locs hP hS => ?_)
    refine lv_lstore (lv' := [(7, .long v6), (5, .long v4), (4, .int v2), (0, .ref (ad 1060)), (1, .int x1), (2, .int x2), (3, .int x3)]) hx hb dX5_over_39 hl (by decide) rfl (fun ls hl => ?_)
    refine lv_aload_n hx hb dX5_over_41 rfl (lv_at hl 3 rfl) ?_
    refine gx_X5_23_1060 (v := (σ.1 1062)) E hX hD hP rfl dX5_over_42 ?_
    obtain ⟨v8, hv8, hf⟩ := bdP hf
    refine p_nn0 (ckz_some hv8) ?_
    refine gx_X5_46_1050 E hX hD hP dX5_over_45 ?_
    refine lv_iload_n hx hb dX5_over_48 rfl (lv_at hl 6 rfl) ?_
    refine lv_iload hx hb dX5_over_49 (lv_at hl 2 rfl) ?_
    refine lv_iconst hx hb dX5_over_51 ic_1 ?_
    obtain ⟨v9, u10, hf⟩ := bdP hf
    refine cx_X5_129_X1_with E hX hD hP hS hA (kxX1_with l D G hD rfl u10) ⟨rfl, rfl⟩ ⟨by dsimp only [rmG_T_TB, rmX1_with]; omega, by dsimp only [rmG_T_TB, rmX1_with]; omega⟩ ⟨Nat.zero_le _, Nat.zero_le _⟩ hl.1 (Nat.le_of_ble_eq_true rfl) dX5_over_52 (fun H locs hP hS => ?_)
    obtain ⟨v11, hv11, hf⟩ := bdP hf
    refine p_lald hx hb hX.1 hP (hD.1 _ _ dX_1141) rfl hv11 dX5_over_55 ?_
    refine lv_lconst hx hb dX5_over_56 lc_0 ?_
    refine W.lcmp hx hb dX5_over_57 ?_
    refine lv_if_ne (tgt := 64) hx hb dX5_over_58 (by decide) (fun c12 => ?_) (fun c12 => ?_)
    · have hf := ifF (mt (lgc_eq _ _).mpr c12) hf
      refine lv_aload_n hx hb dX5_over_64 rfl (lv_at hl 3 rfl) ?_
      refine gx_X5_23_1060 (v := (σ.1 1062)) E hX hD hP rfl dX5_over_65 ?_
      obtain ⟨v13, hv13, hf⟩ := bdP hf
      refine p_nn0 (ckz_some hv13) ?_
      refine gx_X5_46_1050 E hX hD hP dX5_over_68 ?_
      refine lv_iload_n hx hb dX5_over_71 rfl (lv_at hl 6 rfl) ?_
      refine lv_iload hx hb dX5_over_72 (lv_at hl 2 rfl) ?_
      refine lv_iconst hx hb dX5_over_74 ic_2 ?_
      obtain ⟨v14, u15, hf⟩ := bdP hf
      refine cx_X5_129_X1_with E hX hD hP hS hA (kxX1_with l D G hD rfl u15) ⟨rfl, rfl⟩ ⟨by dsimp only [rmG_T_TB, rmX1_with]; omega, by dsimp only [rmG_T_TB, rmX1_with]; omega⟩ ⟨Nat.zero_le _, Nat.zero_le _⟩ hl.1 (Nat.le_of_ble_eq_true rfl) dX5_over_75 (fun H locs hP hS => ?_)
      obtain ⟨v16, hv16, hf⟩ := bdP hf
      refine p_lald hx hb hX.1 hP (hD.1 _ _ dX_1141) rfl hv16 dX5_over_78 ?_
      refine lv_lconst hx hb dX5_over_79 lc_0 ?_
      refine W.lcmp hx hb dX5_over_80 ?_
      refine lv_if_ne (tgt := 87) hx hb dX5_over_81 (by decide) (fun c17 => ?_) (fun c17 => ?_)
      · have hf := ifF (mt (lgc_eq _ _).mpr c17) hf
        refine lv_lload hx hb dX5_over_87 (lv_at hl 1 rfl) ?_
        refine lv_aload_n hx hb dX5_over_89 rfl (lv_at hl 3 rfl) ?_
        refine gx_X5_19_1060 (v := (σ.2.1 1061)) E hX hD hP rfl dX5_over_90 ?_
        refine W.lcmp hx hb dX5_over_93 ?_
        have J107 : xo_X5_over_TB_J107 (σ.2.1 1061) = some r_ → ∀ (H : Heap) (locs : List Loc), PIC D clsA G dsc ad σ H → va_S A s.heap H locs → ∀ (ls : Array Slot), lv_has ls 9 [(0, .ref (ad 1060))] → W p l e (rmG_T_TB (d + 1)) s m args below meth c0 H locs 0 0 Q (F0 m 107 ls []) := by
          intro  hf H locs hP hS ls hl
          unfold xo_X5_over_TB_J107 at hf
          refine lv_aload_n hx hb dX5_over_107 rfl (lv_at hl 0 rfl) ?_
          refine gx_X5_19_1060 (v := (σ.2.1 1061)) E hX hD hP rfl dX5_over_108 ?_
          refine lv_goto (tgt := 122) hx hb dX5_over_111 (by decide) ?_
          cases hf
          rw [hQ]; exact g_lret hx hb hr hlk hP hS dX5_over_122
        refine lv_if_eq (tgt := 107) hx hb dX5_over_94 (by decide) (fun c18 => ?_) (fun c18 => ?_)
        · have hf := ifT ((lgc_eq _ _).mp c18) hf
          exact J107  hf H locs hP hS ls (lv_sub hl [3] rfl)
        · have hf := ifF (mt (lgc_eq _ _).mpr c18) hf
          refine lv_lload hx hb dX5_over_97 (lv_at hl 0 rfl) ?_
          refine lv_aload_n hx hb dX5_over_99 rfl (lv_at hl 3 rfl) ?_
          refine gx_X5_19_1060 (v := (σ.2.1 1061)) E hX hD hP rfl dX5_over_100 ?_
          refine W.lcmp hx hb dX5_over_103 ?_
          refine lv_if_ne (tgt := 114) hx hb dX5_over_104 (by decide) (fun c19 => ?_) (fun c19 => ?_)
          · have hf := ifF (mt (lgc_eq _ _).mpr c19) hf
            refine lv_aload_n hx hb dX5_over_114 rfl (lv_at hl 3 rfl) ?_
            refine lv_lload hx hb dX5_over_115 (lv_at hl 1 rfl) ?_
            refine lv_lload hx hb dX5_over_117 (lv_at hl 0 rfl) ?_
            obtain ⟨v20, u21, hf⟩ := bdP hf
            refine cx_X5_132_X6_both_TB E hX hD hP hS hA (kxX6_both_TB l D G hD u21) ⟨rfl, rfl⟩ ⟨by dsimp only [rmG_T_TB, rmX6_both_TB]; omega, by dsimp only [rmG_T_TB, rmX6_both_TB]; omega⟩ ⟨Nat.zero_le _, Nat.zero_le _⟩ hl.1 (Nat.le_of_ble_eq_true rfl) dX5_over_119 (fun H locs hP hS => ?_)
            cases hf
            rw [hQ]; exact g_lret hx hb hr hlk hP hS dX5_over_122
          · have hf := ifT ((lgc_eq _ _).mp c19) hf
            exact J107  hf H locs hP hS ls (lv_sub hl [3] rfl)
      · have hf := ifT ((lgc_eq _ _).mp c17) hf
        refine lv_lload hx hb dX5_over_84 (lv_at hl 1 rfl) ?_
        cases hf
        rw [hQ]; exact g_lret hx hb hr hlk hP hS dX5_over_86
    · have hf := ifT ((lgc_eq _ _).mp c12) hf
      refine lv_lload hx hb dX5_over_61 (lv_at hl 0 rfl) ?_
      cases hf
      rw [hQ]; exact g_lret hx hb hr hlk hP hS dX5_over_63
  · have hf := ifT c1 hf
    refine lv_aload_n hx hb dX5_over_4 rfl (lv_at hl 0 rfl) ?_
    refine lv_iload_n hx hb dX5_over_5 rfl (lv_at hl 2 rfl) ?_
    refine lv_iload_n hx hb dX5_over_6 rfl (lv_at hl 3 rfl) ?_
    obtain ⟨v22, u23, hf⟩ := bdP hf
    refine cx_X5_117_X5_arrived_TB E hX hD hP hS hA (hrec_X5_arrived _ rfl rfl rfl rfl rfl rfl rfl rfl u23) ⟨rfl, rfl⟩ ⟨Nat.le_refl _, by dsimp only [rmG_T_TB]; omega⟩ ⟨Nat.zero_le _, Nat.zero_le _⟩ hl.1 (Nat.le_of_ble_eq_true rfl) dX5_over_7 (fun H locs hP hS => ?_)
    cases hf
    rw [hQ]; exact g_lret hx hb hr hlk hP hS dX5_over_10
/-! X5_shown_TB (IIIII)J -/
abbrev rmX5_shown_TB : Room := rmG_T_TB 40
set_option maxHeartbeats 4000000 in
theorem wkX5_shown_TB {x1 : Int32} {x2 : Int32} {x3 : Int32} {x4 : Int32} {x5 : Int32} {r_ : Int64} {d : Nat} {f_X5_over : Int32 → Int32 → Int32 → Option (Int64)} {f_X5_shown : Int32 → Int32 → Int32 → Int32 → Int32 → Option (Int64)} {f_X5_arrived : Int32 → Int32 → Option (Int64)} (hrec_X5_over : ∀ (σ1 : Sto) {x1 : Int32} {x2 : Int32} {x3 : Int32} {r_ : Int64} (_ : σ1.1 1062 = (σ.1 1062)) (_ : σ1.1 2013 = (σ.1 2013)) (_ : σ1.1 2027 = (σ.1 2027)) (_ : σ1.2.1 1061 = (σ.2.1 1061)) (_ : σ1.2.2.1 1170 = (σ.2.2.1 1170)) (_ : σ1.2.2.1 2043 = (σ.2.2.1 2043)) (_ : σ1.2.2.2.1 1141 = (σ.2.2.2.1 1141)) (_ : σ1.2.2.2.1 1150 = (σ.2.2.2.1 1150)), f_X5_over x1 x2 x3 = some r_ → CtG l D G dsc ad yX5_over (ws_ yX5_over cX5_over 9 (Option.some Jvm.ClassFile.FieldType.long)) (rmG_T_TB d) [.ref (ad 1060), .int x1, .int x2, .int x3] σ1 (some (.long r_)) σ1) (hrec_X5_shown : ∀ (σ1 : Sto) {x1 : Int32} {x2 : Int32} {x3 : Int32} {x4 : Int32} {x5 : Int32} {r_ : Int64} (_ : σ1.1 1062 = (σ.1 1062)) (_ : σ1.1 2013 = (σ.1 2013)) (_ : σ1.1 2027 = (σ.1 2027)) (_ : σ1.2.1 1061 = (σ.2.1 1061)) (_ : σ1.2.2.1 1170 = (σ.2.2.1 1170)) (_ : σ1.2.2.1 2043 = (σ.2.2.1 2043)) (_ : σ1.2.2.2.1 1141 = (σ.2.2.2.1 1141)) (_ : σ1.2.2.2.1 1150 = (σ.2.2.2.1 1150)), f_X5_shown x1 x2 x3 x4 x5 = some r_ → CtG l D G dsc ad yX5_shown (ws_ yX5_shown cX5_shown 6 (Option.some Jvm.ClassFile.FieldType.long)) (rmG_T_TB d) [.ref (ad 1060), .int x1, .int x2, .int x3, .int x4, .int x5] σ1 (some (.long r_)) σ1) (hrec_X5_arrived : ∀ (σ1 : Sto) {x1 : Int32} {x2 : Int32} {r_ : Int64} (_ : σ1.1 1062 = (σ.1 1062)) (_ : σ1.1 2013 = (σ.1 2013)) (_ : σ1.1 2027 = (σ.1 2027)) (_ : σ1.2.1 1061 = (σ.2.1 1061)) (_ : σ1.2.2.1 1170 = (σ.2.2.1 1170)) (_ : σ1.2.2.1 2043 = (σ.2.2.1 2043)) (_ : σ1.2.2.2.1 1141 = (σ.2.2.2.1 1141)) (_ : σ1.2.2.2.1 1150 = (σ.2.2.2.1 1150)), f_X5_arrived x1 x2 = some r_ → CtG l D G dsc ad yX5_arrived (ws_ yX5_arrived cX5_arrived 3 (Option.some Jvm.ClassFile.FieldType.long)) (rmG_T_TB d) [.ref (ad 1060), .int x1, .int x2] σ1 (some (.long r_)) σ1) (E : EN p s m args meth c0 RX5 cX5_shown 6 (Option.some Jvm.ClassFile.FieldType.long)) (hX : KX D G ad A s s.heap) (hD : XD dsc nr nw nu) (hA : ∀ q, PA dsc ad s.heap.size q → A q) (hf : xo_X5_shown_TB_B f_X5_over f_X5_shown f_X5_arrived (σ.1 1062) (σ.1 2013) (σ.1 2027) (σ.2.1 1061) (σ.2.2.1 1170) (σ.2.2.1 2043) (σ.2.2.2.1 1141) (σ.2.2.2.1 1150) x1 x2 x3 x4 x5 = some r_) (hQ : Q = MQ below (va_G1 (some (.long r_)) (fun t => PIC D clsA G dsc ad σ t.heap) A) args s 0 0 A) (hP : PIC D clsA G dsc ad σ H) (hS : va_S A s.heap H locs) (hl : lv_has ls 6 [(0, .ref (ad 1060)), (1, .int x1), (2, .int x2), (3, .int x3), (4, .int x4), (5, .int x5)]) : W p l e (rmG_T_TB (d + 1)) s m args below meth c0 H locs 0 0 Q (F0 m 0 ls []) := by
  obtain ⟨⟨hx, hb, hml, hown, hts⟩, hr, hlk⟩ := id E
  unfold xo_X5_shown_TB_B at hf
  refine lv_aload_n hx hb dX5_shown_0 rfl (lv_at hl 0 rfl) ?_
  refine gx_X5_23_1060 (v := (σ.1 1062)) E hX hD hP rfl dX5_shown_1 ?_
  obtain ⟨v1, hv1, hf⟩ := bdP hf
  refine p_nn0 (ckz_some hv1) ?_
  refine gx_X5_46_1050 E hX hD hP dX5_shown_4 ?_
  refine lv_iload hx hb dX5_shown_7 (lv_at hl 5 rfl) ?_
  refine lv_iload_n hx hb dX5_shown_9 rfl (lv_at hl 2 rfl) ?_
  refine lv_iload_n hx hb dX5_shown_10 rfl (lv_at hl 3 rfl) ?_
  obtain ⟨v2, u3, hf⟩ := bdP hf
  refine cx_X5_129_X1_with E hX hD hP hS hA (kxX1_with l D G hD rfl u3) ⟨rfl, rfl⟩ ⟨by dsimp only [rmG_T_TB, rmX1_with]; omega, by dsimp only [rmG_T_TB, rmX1_with]; omega⟩ ⟨Nat.zero_le _, Nat.zero_le _⟩ hl.1 (Nat.le_of_ble_eq_true rfl) dX5_shown_11 (fun H locs hP hS => ?_)
  obtain ⟨v4, hv4, hf⟩ := bdP hf
  refine p_lald hx hb hX.1 hP (hD.1 _ _ dX_1141) rfl hv4 dX5_shown_14 ?_
  refine lv_lconst hx hb dX5_shown_15 lc_0 ?_
  refine W.lcmp hx hb dX5_shown_16 ?_
  refine lv_if_ne (tgt := 27) hx hb dX5_shown_17 (by decide) (fun c5 => ?_) (fun c5 => ?_)
  · have hf := ifF (mt (lgc_eq _ _).mpr c5) hf
    refine lv_aload_n hx hb dX5_shown_27 rfl (lv_at hl 0 rfl) ?_
    refine lv_iload_n hx hb dX5_shown_28 rfl (lv_at hl 1 rfl) ?_
    refine lv_iconst hx hb dX5_shown_29 ic_1 ?_
    refine lv_iload_n hx hb dX5_shown_30 rfl (lv_at hl 2 rfl) ?_
    refine lv_ishl hx hb dX5_shown_31 ?_
    refine lv_iconst hx hb dX5_shown_32 ic_m1 ?_
    refine lv_ixor hx hb dX5_shown_33 ?_
    refine lv_iand hx hb dX5_shown_34 ?_
    refine lv_iload hx hb dX5_shown_35 (lv_at hl 4 rfl) ?_
    refine lv_iload hx hb dX5_shown_37 (lv_at hl 5 rfl) ?_
    refine lv_iload_n hx hb dX5_shown_39 rfl (lv_at hl 2 rfl) ?_
    refine lv_iload_n hx hb dX5_shown_40 rfl (lv_at hl 3 rfl) ?_
    obtain ⟨v6, u7, hf⟩ := bdP hf
    refine cx_X5_129_X1_with E hX hD hP hS hA (kxX1_with l D G hD rfl u7) ⟨rfl, rfl⟩ ⟨by dsimp only [rmG_T_TB, rmX1_with]; omega, by dsimp only [rmG_T_TB, rmX1_with]; omega⟩ ⟨Nat.zero_le _, Nat.zero_le _⟩ hl.1 (Nat.le_of_ble_eq_true rfl) dX5_shown_41 (fun H locs hP hS => ?_)
    obtain ⟨v8, u9, hf⟩ := bdP hf
    refine cx_X5_114_X5_over_TB E hX hD hP hS hA (hrec_X5_over _ rfl rfl rfl rfl rfl rfl rfl rfl u9) ⟨rfl, rfl⟩ ⟨Nat.le_refl _, by dsimp only [rmG_T_TB]; omega⟩ ⟨Nat.zero_le _, Nat.zero_le _⟩ hl.1 (Nat.le_of_ble_eq_true rfl) dX5_shown_44 (fun H locs hP hS => ?_)
    cases hf
    rw [hQ]; exact g_lret hx hb hr hlk hP hS dX5_shown_47
  · have hf := ifT ((lgc_eq _ _).mp c5) hf
    refine lv_aload_n hx hb dX5_shown_20 rfl (lv_at hl 0 rfl) ?_
    refine gx_X5_19_1060 (v := (σ.2.1 1061)) E hX hD hP rfl dX5_shown_21 ?_
    refine lv_goto (tgt := 47) hx hb dX5_shown_24 (by decide) ?_
    cases hf
    rw [hQ]; exact g_lret hx hb hr hlk hP hS dX5_shown_47
/-! X5_arrived_TB (II)J -/
abbrev rmX5_arrived_TB : Room := rmG_T_TB 40
set_option maxHeartbeats 4000000 in
theorem wkX5_arrived_TB {x1 : Int32} {x2 : Int32} {r_ : Int64} {d : Nat} {f_X5_over : Int32 → Int32 → Int32 → Option (Int64)} {f_X5_shown : Int32 → Int32 → Int32 → Int32 → Int32 → Option (Int64)} {f_X5_arrived : Int32 → Int32 → Option (Int64)} (hrec_X5_over : ∀ (σ1 : Sto) {x1 : Int32} {x2 : Int32} {x3 : Int32} {r_ : Int64} (_ : σ1.1 1062 = (σ.1 1062)) (_ : σ1.1 2013 = (σ.1 2013)) (_ : σ1.1 2027 = (σ.1 2027)) (_ : σ1.2.1 1061 = (σ.2.1 1061)) (_ : σ1.2.2.1 1170 = (σ.2.2.1 1170)) (_ : σ1.2.2.1 2043 = (σ.2.2.1 2043)) (_ : σ1.2.2.2.1 1141 = (σ.2.2.2.1 1141)) (_ : σ1.2.2.2.1 1150 = (σ.2.2.2.1 1150)), f_X5_over x1 x2 x3 = some r_ → CtG l D G dsc ad yX5_over (ws_ yX5_over cX5_over 9 (Option.some Jvm.ClassFile.FieldType.long)) (rmG_T_TB d) [.ref (ad 1060), .int x1, .int x2, .int x3] σ1 (some (.long r_)) σ1) (hrec_X5_shown : ∀ (σ1 : Sto) {x1 : Int32} {x2 : Int32} {x3 : Int32} {x4 : Int32} {x5 : Int32} {r_ : Int64} (_ : σ1.1 1062 = (σ.1 1062)) (_ : σ1.1 2013 = (σ.1 2013)) (_ : σ1.1 2027 = (σ.1 2027)) (_ : σ1.2.1 1061 = (σ.2.1 1061)) (_ : σ1.2.2.1 1170 = (σ.2.2.1 1170)) (_ : σ1.2.2.1 2043 = (σ.2.2.1 2043)) (_ : σ1.2.2.2.1 1141 = (σ.2.2.2.1 1141)) (_ : σ1.2.2.2.1 1150 = (σ.2.2.2.1 1150)), f_X5_shown x1 x2 x3 x4 x5 = some r_ → CtG l D G dsc ad yX5_shown (ws_ yX5_shown cX5_shown 6 (Option.some Jvm.ClassFile.FieldType.long)) (rmG_T_TB d) [.ref (ad 1060), .int x1, .int x2, .int x3, .int x4, .int x5] σ1 (some (.long r_)) σ1) (hrec_X5_arrived : ∀ (σ1 : Sto) {x1 : Int32} {x2 : Int32} {r_ : Int64} (_ : σ1.1 1062 = (σ.1 1062)) (_ : σ1.1 2013 = (σ.1 2013)) (_ : σ1.1 2027 = (σ.1 2027)) (_ : σ1.2.1 1061 = (σ.2.1 1061)) (_ : σ1.2.2.1 1170 = (σ.2.2.1 1170)) (_ : σ1.2.2.1 2043 = (σ.2.2.1 2043)) (_ : σ1.2.2.2.1 1141 = (σ.2.2.2.1 1141)) (_ : σ1.2.2.2.1 1150 = (σ.2.2.2.1 1150)), f_X5_arrived x1 x2 = some r_ → CtG l D G dsc ad yX5_arrived (ws_ yX5_arrived cX5_arrived 3 (Option.some Jvm.ClassFile.FieldType.long)) (rmG_T_TB d) [.ref (ad 1060), .int x1, .int x2] σ1 (some (.long r_)) σ1) (E : EN p s m args meth c0 RX5 cX5_arrived 3 (Option.some Jvm.ClassFile.FieldType.long)) (hX : KX D G ad A s s.heap) (hD : XD dsc nr nw nu) (hA : ∀ q, PA dsc ad s.heap.size q → A q) (hf : xo_X5_arrived_TB_B f_X5_over f_X5_shown f_X5_arrived (σ.1 1062) (σ.1 2013) (σ.1 2027) (σ.2.1 1061) (σ.2.2.1 1170) (σ.2.2.1 2043) (σ.2.2.2.1 1141) (σ.2.2.2.1 1150) x1 x2 = some r_) (hQ : Q = MQ below (va_G1 (some (.long r_)) (fun t => PIC D clsA G dsc ad σ t.heap) A) args s 0 0 A) (hP : PIC D clsA G dsc ad σ H) (hS : va_S A s.heap H locs) (hl : lv_has ls 3 [(0, .ref (ad 1060)), (1, .int x1), (2, .int x2)]) : W p l e (rmG_T_TB (d + 1)) s m args below meth c0 H locs 0 0 Q (F0 m 0 ls []) := by
  obtain ⟨⟨hx, hb, hml, hown, hts⟩, hr, hlk⟩ := id E
  unfold xo_X5_arrived_TB_B at hf
  refine lv_iload_n hx hb dX5_arrived_0 rfl (lv_at hl 1 rfl) ?_
  refine lv_aload_n hx hb dX5_arrived_1 rfl (lv_at hl 0 rfl) ?_
  refine gx_X5_3_1060 E hX hD hP dX5_arrived_2 ?_
  refine gx_X5_27_1000 E hX hD hP dX5_arrived_5 ?_
  refine gx_X5_67_2000 (v := (σ.1 2013)) E hX hD hP rfl dX5_arrived_8 ?_
  refine lv_icmp_ne (tgt := 22) hx hb dX5_arrived_11 (by decide) (fun c1 => ?_) (fun c1 => ?_)
  · have hf := ifF c1 hf
    refine lv_aload_n hx hb dX5_arrived_22 rfl (lv_at hl 0 rfl) ?_
    refine gx_X5_3_1060 E hX hD hP dX5_arrived_23 ?_
    refine gx_X5_27_1000 E hX hD hP dX5_arrived_26 ?_
    refine lv_iload_n hx hb dX5_arrived_29 rfl (lv_at hl 1 rfl) ?_
    refine lv_iload_n hx hb dX5_arrived_30 rfl (lv_at hl 2 rfl) ?_
    obtain ⟨v2, u3, hf⟩ := bdP hf
    refine cx_X5_74_X3_unseen E hX hD hP hS hA (kxX3_unseen l D G hD rfl rfl rfl u3) ⟨rfl, rfl⟩ ⟨by dsimp only [rmG_T_TB, rmX3_unseen]; omega, by dsimp only [rmG_T_TB, rmX3_unseen]; omega⟩ ⟨Nat.zero_le _, Nat.zero_le _⟩ hl.1 (Nat.le_of_ble_eq_true rfl) dX5_arrived_31 (fun H locs hP hS => ?_)
    refine lv_if_ne (tgt := 46) hx hb dX5_arrived_34 (by decide) (fun c4 => ?_) (fun c4 => ?_)
    · have hf := ifF c4 hf
      refine lv_aload_n hx hb dX5_arrived_46 rfl (lv_at hl 0 rfl) ?_
      refine lv_aload_n hx hb dX5_arrived_47 rfl (lv_at hl 0 rfl) ?_
      refine gx_X5_3_1060 E hX hD hP dX5_arrived_48 ?_
      refine gx_X5_27_1000 E hX hD hP dX5_arrived_51 ?_
      refine lv_iload_n hx hb dX5_arrived_54 rfl (lv_at hl 1 rfl) ?_
      refine lv_iload_n hx hb dX5_arrived_55 rfl (lv_at hl 2 rfl) ?_
      obtain ⟨v5, u6, hf⟩ := bdP hf
      refine cx_X5_74_X3_unseen E hX hD hP hS hA (kxX3_unseen l D G hD rfl rfl rfl u6) ⟨rfl, rfl⟩ ⟨by dsimp only [rmG_T_TB, rmX3_unseen]; omega, by dsimp only [rmG_T_TB, rmX3_unseen]; omega⟩ ⟨Nat.zero_le _, Nat.zero_le _⟩ hl.1 (Nat.le_of_ble_eq_true rfl) dX5_arrived_56 (fun H locs hP hS => ?_)
      refine lv_iload_n hx hb dX5_arrived_59 rfl (lv_at hl 1 rfl) ?_
      refine lv_iload_n hx hb dX5_arrived_60 rfl (lv_at hl 2 rfl) ?_
      obtain ⟨v7, u8, hf⟩ := bdP hf
      refine cx_X5_114_X5_over_TB E hX hD hP hS hA (hrec_X5_over _ rfl rfl rfl rfl rfl rfl rfl rfl u8) ⟨rfl, rfl⟩ ⟨Nat.le_refl _, by dsimp only [rmG_T_TB]; omega⟩ ⟨Nat.zero_le _, Nat.zero_le _⟩ hl.1 (Nat.le_of_ble_eq_true rfl) dX5_arrived_61 (fun H locs hP hS => ?_)
      cases hf
      rw [hQ]; exact g_lret hx hb hr hlk hP hS dX5_arrived_64
    · have hf := ifT c4 hf
      refine lv_aload_n hx hb dX5_arrived_37 rfl (lv_at hl 0 rfl) ?_
      refine lv_iload_n hx hb dX5_arrived_38 rfl (lv_at hl 1 rfl) ?_
      refine lv_iload_n hx hb dX5_arrived_39 rfl (lv_at hl 2 rfl) ?_
      obtain ⟨v9, u10, hf⟩ := bdP hf
      refine cx_X5_81_X5_value_TB E hX hD hP hS hA (kxX5_value_TB l D G hD rfl u10) ⟨rfl, rfl⟩ ⟨by dsimp only [rmG_T_TB, rmX5_value_TB]; omega, by dsimp only [rmG_T_TB, rmX5_value_TB]; omega⟩ ⟨Nat.zero_le _, Nat.zero_le _⟩ hl.1 (Nat.le_of_ble_eq_true rfl) dX5_arrived_40 (fun H locs hP hS => ?_)
      refine lv_goto (tgt := 64) hx hb dX5_arrived_43 (by decide) ?_
      cases hf
      rw [hQ]; exact g_lret hx hb hr hlk hP hS dX5_arrived_64
  · have hf := ifT c1 hf
    refine lv_aload_n hx hb dX5_arrived_14 rfl (lv_at hl 0 rfl) ?_
    refine lv_iload_n hx hb dX5_arrived_15 rfl (lv_at hl 2 rfl) ?_
    obtain ⟨v11, u12, hf⟩ := bdP hf
    refine cx_X5_70_X6_end_TB E hX hD hP hS hA (kxX6_end_TB l D G hD u12) ⟨rfl, rfl⟩ ⟨by dsimp only [rmG_T_TB, rmX6_end_TB]; omega, by dsimp only [rmG_T_TB, rmX6_end_TB]; omega⟩ ⟨Nat.zero_le _, Nat.zero_le _⟩ hl.1 (Nat.le_of_ble_eq_true rfl) dX5_arrived_16 (fun H locs hP hS => ?_)
    refine lv_goto (tgt := 64) hx hb dX5_arrived_19 (by decide) ?_
    cases hf
    rw [hQ]; exact g_lret hx hb hr hlk hP hS dX5_arrived_64
theorem kg_T_TB (l : Launch) (D : va_G) (G : Nat → ClassId) {dsc : Nat → Option Dsc} {ad : Nat → Nat} {nr nw nu : Nat} (hD : XD dsc nr nw nu) {z_TB_by : Int32} {z_L_to : Int32} {z_Ld_size : Int32} {z_TB_none : Int64} {a_UNIT : Nat → Int32} {a_L_seen : Nat → Int32} {a_W_likely : Nat → Int64} {a_TB_value : Nat → Int64} : ∀ d : Nat, (∀ (σ1 : Sto) {x1 : Int32} {x2 : Int32} {x3 : Int32} {r_ : Int64} (_ : σ1.1 1062 = z_TB_by) (_ : σ1.1 2013 = z_L_to) (_ : σ1.1 2027 = z_Ld_size) (_ : σ1.2.1 1061 = z_TB_none) (_ : σ1.2.2.1 1170 = a_UNIT) (_ : σ1.2.2.1 2043 = a_L_seen) (_ : σ1.2.2.2.1 1141 = a_W_likely) (_ : σ1.2.2.2.1 1150 = a_TB_value), (xg_T_TB z_TB_by z_L_to z_Ld_size z_TB_none a_UNIT a_L_seen a_W_likely a_TB_value d).1 x1 x2 x3 = some r_ → CtG l D G dsc ad yX5_over (ws_ yX5_over cX5_over 9 (Option.some Jvm.ClassFile.FieldType.long)) (rmG_T_TB d) [.ref (ad 1060), .int x1, .int x2, .int x3] σ1 (some (.long r_)) σ1) ∧ (∀ (σ1 : Sto) {x1 : Int32} {x2 : Int32} {x3 : Int32} {x4 : Int32} {x5 : Int32} {r_ : Int64} (_ : σ1.1 1062 = z_TB_by) (_ : σ1.1 2013 = z_L_to) (_ : σ1.1 2027 = z_Ld_size) (_ : σ1.2.1 1061 = z_TB_none) (_ : σ1.2.2.1 1170 = a_UNIT) (_ : σ1.2.2.1 2043 = a_L_seen) (_ : σ1.2.2.2.1 1141 = a_W_likely) (_ : σ1.2.2.2.1 1150 = a_TB_value), (xg_T_TB z_TB_by z_L_to z_Ld_size z_TB_none a_UNIT a_L_seen a_W_likely a_TB_value d).2.1 x1 x2 x3 x4 x5 = some r_ → CtG l D G dsc ad yX5_shown (ws_ yX5_shown cX5_shown 6 (Option.some Jvm.ClassFile.FieldType.long)) (rmG_T_TB d) [.ref (ad 1060), .int x1, .int x2, .int x3, .int x4, .int x5] σ1 (some (.long r_)) σ1) ∧ (∀ (σ1 : Sto) {x1 : Int32} {x2 : Int32} {r_ : Int64} (_ : σ1.1 1062 = z_TB_by) (_ : σ1.1 2013 = z_L_to) (_ : σ1.1 2027 = z_Ld_size) (_ : σ1.2.1 1061 = z_TB_none) (_ : σ1.2.2.1 1170 = a_UNIT) (_ : σ1.2.2.1 2043 = a_L_seen) (_ : σ1.2.2.2.1 1141 = a_W_likely) (_ : σ1.2.2.2.1 1150 = a_TB_value), (xg_T_TB z_TB_by z_L_to z_Ld_size z_TB_none a_UNIT a_L_seen a_W_likely a_TB_value d).2.2 x1 x2 = some r_ → CtG l D G dsc ad yX5_arrived (ws_ yX5_arrived cX5_arrived 3 (Option.some Jvm.ClassFile.FieldType.long)) (rmG_T_TB d) [.ref (ad 1060), .int x1, .int x2] σ1 (some (.long r_)) σ1) := by
  intro d
  induction d with
  | zero =>
    refine ⟨?_, ?_, ?_⟩ <;> (intros; rename_i hu; simp [xg_T_TB] at hu)
  | succ d ih =>
    refine ⟨?_, ?_, ?_⟩
    · intro σ x1 x2 x3 r_ e_zI1062 e_zI2013 e_zI2027 e_zL1061 e_aI1170 e_aI2043 e_aL1141 e_aL1150 hu
      subst e_zI1062
      subst e_zI2013
      subst e_zI2027
      subst e_zL1061
      subst e_aI1170
      subst e_aI2043
      subst e_aL1141
      subst e_aL1150
      exact p_ctG (by decide +kernel) (Nat.le_of_ble_eq_true rfl) (fun p e s m below meth c0 ls A E hP hX hA hS hl => wkX5_over_TB ih.1 ih.2.1 ih.2.2 E hX hD hA hu rfl hP hS hl)
    · intro σ x1 x2 x3 x4 x5 r_ e_zI1062 e_zI2013 e_zI2027 e_zL1061 e_aI1170 e_aI2043 e_aL1141 e_aL1150 hu
      subst e_zI1062
      subst e_zI2013
      subst e_zI2027
      subst e_zL1061
      subst e_aI1170
      subst e_aI2043
      subst e_aL1141
      subst e_aL1150
      exact p_ctG (by decide +kernel) (Nat.le_of_ble_eq_true rfl) (fun p e s m below meth c0 ls A E hP hX hA hS hl => wkX5_shown_TB ih.1 ih.2.1 ih.2.2 E hX hD hA hu rfl hP hS hl)
    · intro σ x1 x2 r_ e_zI1062 e_zI2013 e_zI2027 e_zL1061 e_aI1170 e_aI2043 e_aL1141 e_aL1150 hu
      subst e_zI1062
      subst e_zI2013
      subst e_zI2027
      subst e_zL1061
      subst e_aI1170
      subst e_aI2043
      subst e_aL1141
      subst e_aL1150
      exact p_ctG (by decide +kernel) (Nat.le_of_ble_eq_true rfl) (fun p e s m below meth c0 ls A E hP hX hA hS hl => wkX5_arrived_TB ih.1 ih.2.1 ih.2.2 E hX hD hA hu rfl hP hS hl)
theorem kxX5_over_TB (l : Launch) (D : va_G) (G : Nat → ClassId) {dsc : Nat → Option Dsc} {ad : Nat → Nat} {σ : Sto} {nr nw nu : Nat} (hD : XD dsc nr nw nu) {x1 : Int32} {x2 : Int32} {x3 : Int32} {r_ : Int64} {z_TB_by : Int32} (e_zI1062 : σ.1 1062 = z_TB_by) {z_L_to : Int32} (e_zI2013 : σ.1 2013 = z_L_to) {z_Ld_size : Int32} (e_zI2027 : σ.1 2027 = z_Ld_size) {z_TB_none : Int64} (e_zL1061 : σ.2.1 1061 = z_TB_none) {a_UNIT : Nat → Int32} (e_aI1170 : σ.2.2.1 1170 = a_UNIT) {a_L_seen : Nat → Int32} (e_aI2043 : σ.2.2.1 2043 = a_L_seen) {a_W_likely : Nat → Int64} (e_aL1141 : σ.2.2.2.1 1141 = a_W_likely) {a_TB_value : Nat → Int64} (e_aL1150 : σ.2.2.2.1 1150 = a_TB_value) (hf : (xg_T_TB z_TB_by z_L_to z_Ld_size z_TB_none a_UNIT a_L_seen a_W_likely a_TB_value 40).1 x1 x2 x3 = some r_) : CtG l D G dsc ad yX5_over (ws_ yX5_over cX5_over 9 (Option.some Jvm.ClassFile.FieldType.long)) rmX5_over_TB [.ref (ad 1060), .int x1, .int x2, .int x3] σ (some (.long r_)) σ :=
  (kg_T_TB l D G hD 40).1 σ e_zI1062 e_zI2013 e_zI2027 e_zL1061 e_aI1170 e_aI2043 e_aL1141 e_aL1150 hf
theorem kxX5_shown_TB (l : Launch) (D : va_G) (G : Nat → ClassId) {dsc : Nat → Option Dsc} {ad : Nat → Nat} {σ : Sto} {nr nw nu : Nat} (hD : XD dsc nr nw nu) {x1 : Int32} {x2 : Int32} {x3 : Int32} {x4 : Int32} {x5 : Int32} {r_ : Int64} {z_TB_by : Int32} (e_zI1062 : σ.1 1062 = z_TB_by) {z_L_to : Int32} (e_zI2013 : σ.1 2013 = z_L_to) {z_Ld_size : Int32} (e_zI2027 : σ.1 2027 = z_Ld_size) {z_TB_none : Int64} (e_zL1061 : σ.2.1 1061 = z_TB_none) {a_UNIT : Nat → Int32} (e_aI1170 : σ.2.2.1 1170 = a_UNIT) {a_L_seen : Nat → Int32} (e_aI2043 : σ.2.2.1 2043 = a_L_seen) {a_W_likely : Nat → Int64} (e_aL1141 : σ.2.2.2.1 1141 = a_W_likely) {a_TB_value : Nat → Int64} (e_aL1150 : σ.2.2.2.1 1150 = a_TB_value) (hf : (xg_T_TB z_TB_by z_L_to z_Ld_size z_TB_none a_UNIT a_L_seen a_W_likely a_TB_value 40).2.1 x1 x2 x3 x4 x5 = some r_) : CtG l D G dsc ad yX5_shown (ws_ yX5_shown cX5_shown 6 (Option.some Jvm.ClassFile.FieldType.long)) rmX5_shown_TB [.ref (ad 1060), .int x1, .int x2, .int x3, .int x4, .int x5] σ (some (.long r_)) σ :=
  (kg_T_TB l D G hD 40).2.1 σ e_zI1062 e_zI2013 e_zI2027 e_zL1061 e_aI1170 e_aI2043 e_aL1141 e_aL1150 hf
theorem kxX5_arrived_TB (l : Launch) (D : va_G) (G : Nat → ClassId) {dsc : Nat → Option Dsc} {ad : Nat → Nat} {σ : Sto} {nr nw nu : Nat} (hD : XD dsc nr nw nu) {x1 : Int32} {x2 : Int32} {r_ : Int64} {z_TB_by : Int32} (e_zI1062 : σ.1 1062 = z_TB_by) {z_L_to : Int32} (e_zI2013 : σ.1 2013 = z_L_to) {z_Ld_size : Int32} (e_zI2027 : σ.1 2027 = z_Ld_size) {z_TB_none : Int64} (e_zL1061 : σ.2.1 1061 = z_TB_none) {a_UNIT : Nat → Int32} (e_aI1170 : σ.2.2.1 1170 = a_UNIT) {a_L_seen : Nat → Int32} (e_aI2043 : σ.2.2.1 2043 = a_L_seen) {a_W_likely : Nat → Int64} (e_aL1141 : σ.2.2.2.1 1141 = a_W_likely) {a_TB_value : Nat → Int64} (e_aL1150 : σ.2.2.2.1 1150 = a_TB_value) (hf : (xg_T_TB z_TB_by z_L_to z_Ld_size z_TB_none a_UNIT a_L_seen a_W_likely a_TB_value 40).2.2 x1 x2 = some r_) : CtG l D G dsc ad yX5_arrived (ws_ yX5_arrived cX5_arrived 3 (Option.some Jvm.ClassFile.FieldType.long)) rmX5_arrived_TB [.ref (ad 1060), .int x1, .int x2] σ (some (.long r_)) σ :=
  (kg_T_TB l D G hD 40).2.2 σ e_zI1062 e_zI2013 e_zI2027 e_zL1061 e_aI1170 e_aI2043 e_aL1141 e_aL1150 hf
/-! X5_arriving_TB (II)J -/
abbrev rmX5_arriving_TB : Room := { frames := 43, cells := 0, slots := 0, locals := 1193 }
set_option maxHeartbeats 4000000 in
theorem wkX5_arriving_TB {x1 : Int32} {x2 : Int32} {r_ : Int64} (E : EN p s m args meth c0 RX5 cX5_arriving 3 (Option.some Jvm.ClassFile.FieldType.long)) (hX : KX D G ad A s s.heap) (hD : XD dsc nr nw nu) (hA : ∀ q, PA dsc ad s.heap.size q → A q) (hf : xo_X5_arriving_TB (σ.1 1062) (σ.1 2013) (σ.1 2027) (σ.2.1 1061) (σ.2.2.1 1170) (σ.2.2.1 2043) (σ.2.2.2.1 1141) (σ.2.2.2.1 1150) x1 x2 = some r_) (hQ : Q = MQ below (va_G1 (some (.long r_)) (fun t => PIC D clsA G dsc ad σ t.heap) A) args s 0 0 A) (hP : PIC D clsA G dsc ad σ H) (hS : va_S A s.heap H locs) (hl : lv_has ls 3 [(0, .ref (ad 1060)), (1, .int x1), (2, .int x2)]) : W p l e rmX5_arriving_TB s m args below meth c0 H locs 0 0 Q (F0 m 0 ls []) := by
  obtain ⟨⟨hx, hb, hml, hown, hts⟩, hr, hlk⟩ := id E
  unfold xo_X5_arriving_TB at hf
  refine lv_iload_n hx hb dX5_arriving_0 rfl (lv_at hl 1 rfl) ?_
  refine lv_aload_n hx hb dX5_arriving_1 rfl (lv_at hl 0 rfl) ?_
  refine gx_X5_3_1060 E hX hD hP dX5_arriving_2 ?_
  refine gx_X5_27_1000 E hX hD hP dX5_arriving_5 ?_
  refine gx_X5_67_2000 (v := (σ.1 2013)) E hX hD hP rfl dX5_arriving_8 ?_
  refine lv_icmp_ne (tgt := 22) hx hb dX5_arriving_11 (by decide) (fun c1 => ?_) (fun c1 => ?_)
  · have hf := ifF c1 hf
    refine lv_aload_n hx hb dX5_arriving_22 rfl (lv_at hl 0 rfl) ?_
    refine lv_aload_n hx hb dX5_arriving_23 rfl (lv_at hl 0 rfl) ?_
    refine gx_X5_3_1060 E hX hD hP dX5_arriving_24 ?_
    refine gx_X5_27_1000 E hX hD hP dX5_arriving_27 ?_
    refine lv_iload_n hx hb dX5_arriving_30 rfl (lv_at hl 1 rfl) ?_
    refine lv_iload_n hx hb dX5_arriving_31 rfl (lv_at hl 2 rfl) ?_
    obtain ⟨v2, u3, hf⟩ := bdP hf
    refine cx_X5_74_X3_unseen E hX hD hP hS hA (kxX3_unseen l D G hD rfl rfl rfl u3) ⟨rfl, rfl⟩ ⟨Nat.le_of_ble_eq_true rfl, Nat.le_of_ble_eq_true rfl⟩ ⟨Nat.zero_le _, Nat.zero_le _⟩ hl.1 (Nat.le_of_ble_eq_true rfl) dX5_arriving_32 (fun H locs hP hS => ?_)
    refine lv_iload_n hx hb dX5_arriving_35 rfl (lv_at hl 1 rfl) ?_
    refine lv_iload_n hx hb dX5_arriving_36 rfl (lv_at hl 2 rfl) ?_
    obtain ⟨v4, u5, hf⟩ := bdP hf
    refine cx_X5_114_X5_over_TB E hX hD hP hS hA (kxX5_over_TB l D G hD rfl rfl rfl rfl rfl rfl rfl rfl u5) ⟨rfl, rfl⟩ ⟨Nat.le_of_ble_eq_true rfl, Nat.le_of_ble_eq_true rfl⟩ ⟨Nat.zero_le _, Nat.zero_le _⟩ hl.1 (Nat.le_of_ble_eq_true rfl) dX5_arriving_37 (fun H locs hP hS => ?_)
    cases hf
    rw [hQ]; exact g_lret hx hb hr hlk hP hS dX5_arriving_40
  · have hf := ifT c1 hf
    refine lv_aload_n hx hb dX5_arriving_14 rfl (lv_at hl 0 rfl) ?_
    refine lv_iload_n hx hb dX5_arriving_15 rfl (lv_at hl 2 rfl) ?_
    obtain ⟨v6, u7, hf⟩ := bdP hf
    refine cx_X5_70_X6_end_TB E hX hD hP hS hA (kxX6_end_TB l D G hD u7) ⟨rfl, rfl⟩ ⟨Nat.le_of_ble_eq_true rfl, Nat.le_of_ble_eq_true rfl⟩ ⟨Nat.zero_le _, Nat.zero_le _⟩ hl.1 (Nat.le_of_ble_eq_true rfl) dX5_arriving_16 (fun H locs hP hS => ?_)
    refine lv_goto (tgt := 40) hx hb dX5_arriving_19 (by decide) ?_
    cases hf
    rw [hQ]; exact g_lret hx hb hr hlk hP hS dX5_arriving_40
theorem kxX5_arriving_TB (l : Launch) (D : va_G) (G : Nat → ClassId) {dsc : Nat → Option Dsc} {ad : Nat → Nat} {σ : Sto} {nr nw nu : Nat} (hD : XD dsc nr nw nu) {x1 : Int32} {x2 : Int32} {r_ : Int64} {z_TB_by : Int32} (e_zI1062 : σ.1 1062 = z_TB_by) {z_L_to : Int32} (e_zI2013 : σ.1 2013 = z_L_to) {z_Ld_size : Int32} (e_zI2027 : σ.1 2027 = z_Ld_size) {z_TB_none : Int64} (e_zL1061 : σ.2.1 1061 = z_TB_none) {a_UNIT : Nat → Int32} (e_aI1170 : σ.2.2.1 1170 = a_UNIT) {a_L_seen : Nat → Int32} (e_aI2043 : σ.2.2.1 2043 = a_L_seen) {a_W_likely : Nat → Int64} (e_aL1141 : σ.2.2.2.1 1141 = a_W_likely) {a_TB_value : Nat → Int64} (e_aL1150 : σ.2.2.2.1 1150 = a_TB_value) (hf : xo_X5_arriving_TB z_TB_by z_L_to z_Ld_size z_TB_none a_UNIT a_L_seen a_W_likely a_TB_value x1 x2 = some r_) : CtG l D G dsc ad yX5_arriving (ws_ yX5_arriving cX5_arriving 3 (Option.some Jvm.ClassFile.FieldType.long)) rmX5_arriving_TB [.ref (ad 1060), .int x1, .int x2] σ (some (.long r_)) σ := by
  subst e_zI1062
  subst e_zI2013
  subst e_zI2027
  subst e_zL1061
  subst e_aI1170
  subst e_aI2043
  subst e_aL1141
  subst e_aL1150
  exact p_ctG (by decide +kernel) (Nat.le_of_ble_eq_true rfl) (fun p e s m below meth c0 ls A E hP hX hA hS hl => wkX5_arriving_TB E hX hD hA hf rfl hP hS hl)
theorem gx_X6_17_1060 {v : Int32} (E : EN p s m args meth c0 RX6 cc nL ret) (hX : KX D G ad A s s.heap) (hD : XD dsc nr nw nu) (hP : PIC D clsA G dsc ad σ H) (hv : σ.1 1062 = v) (hdg : decode cc pc = .ok (.getfield 17, 3)) (kk : W p l e R s m args below meth c0 H locs cells slots Q (F0 m (pc + 3) ls (va_rf (drf ad 1050 v) :: rest))) : W p l e R s m args below meth c0 H locs cells slots Q (F0 m pc ls (.ref (ad 1060) :: rest)) :=
  p_get E.1.1 E.1.2.1 E.1.2.2.2.2 in_X6 E.1.2.2.2.1 hX.1 hP (hD.1 _ _ dX_1060) rfl 2 (by decide) (E.1.2.2.2.2 _ q361) (fun x h => u_same (E.1.2.2.2.2 _ q362) x h) rfl (congrArg (fun z => va_rf (drf ad 1050 z)) hv) hdg kk
theorem gx_X6_21_1050 (E : EN p s m args meth c0 RX6 cc nL ret) (hX : KX D G ad A s s.heap) (hD : XD dsc nr nw nu) (hP : PIC D clsA G dsc ad σ H) (hdg : decode cc pc = .ok (.getfield 21, 3)) (kk : W p l e R s m args below meth c0 H locs cells slots Q (F0 m (pc + 3) ls (.ref (ad 1141) :: rest))) : W p l e R s m args below meth c0 H locs cells slots Q (F0 m pc ls (.ref (ad 1050) :: rest)) :=
  p_getN E.1.1 E.1.2.1 E.1.2.2.2.2 in_X4 E.1.2.2.2.1 hX.1 hP (hD.1 _ _ dX_1050) rfl 1 (by decide) (hX.2.1.1 _ q328 rfl) (fun _ h => h) rfl rfl hdg kk
/-! X6_ahead_TB (JII)J -/
abbrev rmX6_ahead_TB : Room := { frames := 0, cells := 0, slots := 0, locals := 0 }
set_option maxHeartbeats 4000000 in
theorem wkX6_ahead_TB {x1 : Int64} {x3 : Int32} {x4 : Int32} {r_ : Int64} (E : EN p s m args meth c0 RX6 cX6_ahead 5 (Option.some Jvm.ClassFile.FieldType.long)) (hX : KX D G ad A s s.heap) (hD : XD dsc nr nw nu) (hA : ∀ q, PA dsc ad s.heap.size q → A q) (hf : xo_X6_ahead_TB (σ.1 1062) (σ.2.2.2.1 1141) x1 x3 x4 = some r_) (hQ : Q = MQ below (va_G1 (some (.long r_)) (fun t => PIC D clsA G dsc ad σ t.heap) A) args s 0 0 A) (hP : PIC D clsA G dsc ad σ H) (hS : va_S A s.heap H locs) (hl : lv_has ls 5 [(0, .ref (ad 1060)), (1, .long x1), (3, .int x3), (4, .int x4)]) : W p l e rmX6_ahead_TB s m args below meth c0 H locs 0 0 Q (F0 m 0 ls []) := by
  obtain ⟨⟨hx, hb, hml, hown, hts⟩, hr, hlk⟩ := id E
  unfold xo_X6_ahead_TB at hf
  refine lv_lload_n hx hb dX6_ahead_0 rfl (lv_at hl 1 rfl) ?_
  refine lv_aload_n hx hb dX6_ahead_1 rfl (lv_at hl 0 rfl) ?_
  refine gx_X6_17_1060 (v := (σ.1 1062)) E hX hD hP rfl dX6_ahead_2 ?_
  obtain ⟨v1, hv1, hf⟩ := bdP hf
  refine p_nn0 (ckz_some hv1) ?_
  refine gx_X6_21_1050 E hX hD hP dX6_ahead_5 ?_
  refine lv_iload hx hb dX6_ahead_8 (lv_at hl 3 rfl) ?_
  obtain ⟨v2, hv2, hf⟩ := bdP hf
  refine p_lald hx hb hX.1 hP (hD.1 _ _ dX_1141) rfl hv2 dX6_ahead_10 ?_
  refine lv_iload_n hx hb dX6_ahead_11 rfl (lv_at hl 2 rfl) ?_
  refine lv_i2l hx hb dX6_ahead_12 rfl ?_
  refine lv_lmul hx hb dX6_ahead_13 ?_
  refine lv_ladd hx hb dX6_ahead_14 ?_
  cases hf
  rw [hQ]; exact g_lret hx hb hr hlk hP hS dX6_ahead_15
theorem kxX6_ahead_TB (l : Launch) (D : va_G) (G : Nat → ClassId) {dsc : Nat → Option Dsc} {ad : Nat → Nat} {σ : Sto} {nr nw nu : Nat} (hD : XD dsc nr nw nu) {x1 : Int64} {x3 : Int32} {x4 : Int32} {r_ : Int64} {z_TB_by : Int32} (e_zI1062 : σ.1 1062 = z_TB_by) {a_W_likely : Nat → Int64} (e_aL1141 : σ.2.2.2.1 1141 = a_W_likely) (hf : xo_X6_ahead_TB z_TB_by a_W_likely x1 x3 x4 = some r_) : CtG l D G dsc ad yX6_ahead (ws_ yX6_ahead cX6_ahead 5 (Option.some Jvm.ClassFile.FieldType.long)) rmX6_ahead_TB [.ref (ad 1060), .long x1, .int x3, .int x4] σ (some (.long r_)) σ := by
  subst e_zI1062
  subst e_aL1141
  exact p_ctG (by decide +kernel) (Nat.le_of_ble_eq_true rfl) (fun p e s m below meth c0 ls A E hP hX hA hS hl => wkX6_ahead_TB E hX hD hA hf rfl hP hS hl)
theorem cx_X5_102_X3_cost {rm : Room} {σ1 : Sto} {x1 : Int32} {x2 : Int32} {x3 : Int32} {r : Int32} (E : EN p s m args meth c0 RX5 cc nL ret) (hX : KX D G ad A s s.heap) (hD : XD dsc nr nw nu) (hP : PIC D clsA G dsc ad σ H) (hS : va_S A s.heap H locs) (hA : ∀ q, PA dsc ad s.heap.size q → A q) (hM : CtG l D G dsc ad yX3_cost (ws_ yX3_cost cX3_cost 5 (Option.some Jvm.ClassFile.FieldType.int)) rm [.ref (ad 2000), .int x1, .int x2, .int x3] σ (some (.int r)) σ1) (hz : rm.cells = 0 ∧ rm.slots = 0) (hR : rm.frames + 1 ≤ R.frames ∧ 8 + (5 + 11) + rm.locals ≤ R.locals) (hcs : cells ≤ R.cells ∧ slots ≤ R.slots) (hsz : ls.size = nL) (hW : (rest.map fun v => v.category).sum ≤ 8) (hdg : decode cc pc = .ok (.invokevirtual 102, 3)) (kk : ∀ (H1 : Heap) (locs1 : List Loc), PIC D clsA G dsc ad σ1 H1 → va_S A s.heap H1 locs1 → W p l e R s m args below meth c0 H1 locs1 cells slots Q (F0 m (pc + 3) ls (.int r :: rest))) : W p l e R s m args below meth c0 H locs cells slots Q (F0 m pc ls (.int x3 :: .int x2 :: .int x1 :: .ref (ad 2000) :: rest)) :=
  p_gV (As := [.int x1, .int x2, .int x3]) (rest := rest) E.1 hX hP hS hA hM (cwV 3 E.1.2.2.2.2 (lw_V q1104 q1105 q1106 q126 q1107) rfl hz.1 hz.2 (by decide +kernel) hR) (hD.1 _ _ dX_2000) rfl rfl rfl hsz rfl hW hdg hcs kk
theorem cx_X5_107_X5_arriving_TB {rm : Room} {σ1 : Sto} {x1 : Int32} {x2 : Int32} {r : Int64} (E : EN p s m args meth c0 RX5 cc nL ret) (hX : KX D G ad A s s.heap) (hD : XD dsc nr nw nu) (hP : PIC D clsA G dsc ad σ H) (hS : va_S A s.heap H locs) (hA : ∀ q, PA dsc ad s.heap.size q → A q) (hM : CtG l D G dsc ad yX5_arriving (ws_ yX5_arriving cX5_arriving 3 (Option.some Jvm.ClassFile.FieldType.long)) rm [.ref (ad 1060), .int x1, .int x2] σ (some (.long r)) σ1) (hz : rm.cells = 0 ∧ rm.slots = 0) (hR : rm.frames + 1 ≤ R.frames ∧ 8 + (3 + 11) + rm.locals ≤ R.locals) (hcs : cells ≤ R.cells ∧ slots ≤ R.slots) (hsz : ls.size = nL) (hW : (rest.map fun v => v.category).sum ≤ 8) (hdg : decode cc pc = .ok (.invokevirtual 107, 3)) (kk : ∀ (H1 : Heap) (locs1 : List Loc), PIC D clsA G dsc ad σ1 H1 → va_S A s.heap H1 locs1 → W p l e R s m args below meth c0 H1 locs1 cells slots Q (F0 m (pc + 3) ls (.long r :: rest))) : W p l e R s m args below meth c0 H locs cells slots Q (F0 m pc ls (.int x2 :: .int x1 :: .ref (ad 1060) :: rest)) :=
  p_gU (As := [.int x1, .int x2]) (rest := rest) E.1 hX hP hS hA hM (cw_any (owner := "ShutPasses$Table") (x := ⟨"ShutPasses$Table", "arriving", "(II)J"⟩) (y := yX5_arriving) (C := "ShutPasses$InMean") (index := 107) (own := RX5) 2 E.1.2.2.2.2 (lw_meth q1117) rfl hz.1 hz.2 (E.1.2.2.2.2 _ q1111) (E.1.2.2.2.2 _ q1113) (va_Decl.of (E.1.2.2.2.2 _ q1112) (E.1.2.2.2.2 _ q1117)) (E.1.2.2.2.2 _ q1115) (E.1.2.2.2.2 _ q1112) (E.1.2.2.2.2 _ q131) (by decide +kernel) hR) (hD.1 _ _ dX_1060) rfl rfl rfl hsz rfl hW hdg hcs kk
theorem cx_X5_110_X6_ahead_TB {rm : Room} {σ1 : Sto} {x1 : Int64} {x3 : Int32} {x4 : Int32} {r : Int64} (E : EN p s m args meth c0 RX5 cc nL ret) (hX : KX D G ad A s s.heap) (hD : XD dsc nr nw nu) (hP : PIC D clsA G dsc ad σ H) (hS : va_S A s.heap H locs) (hA : ∀ q, PA dsc ad s.heap.size q → A q) (hM : CtG l D G dsc ad yX6_ahead (ws_ yX6_ahead cX6_ahead 5 (Option.some Jvm.ClassFile.FieldType.long)) rm [.ref (ad 1060), .long x1, .int x3, .int x4] σ (some (.long r)) σ1) (hz : rm.cells = 0 ∧ rm.slots = 0) (hR : rm.frames + 1 ≤ R.frames ∧ 8 + (5 + 11) + rm.locals ≤ R.locals) (hcs : cells ≤ R.cells ∧ slots ≤ R.slots) (hsz : ls.size = nL) (hW : (rest.map fun v => v.category).sum ≤ 8) (hdg : decode cc pc = .ok (.invokevirtual 110, 3)) (kk : ∀ (H1 : Heap) (locs1 : List Loc), PIC D clsA G dsc ad σ1 H1 → va_S A s.heap H1 locs1 → W p l e R s m args below meth c0 H1 locs1 cells slots Q (F0 m (pc + 3) ls (.long r :: rest))) : W p l e R s m args below meth c0 H locs cells slots Q (F0 m pc ls (.int x4 :: .int x3 :: .long x1 :: .ref (ad 1060) :: rest)) :=
  p_gU (As := [.long x1, .int x3, .int x4]) (rest := rest) E.1 hX hP hS hA hM (cw_any (owner := "ShutPasses$Table") (x := ⟨"ShutPasses$Table", "ahead", "(JII)J"⟩) (y := yX6_ahead) (C := "ShutPasses$InMean") (index := 110) (own := RX5) 3 E.1.2.2.2.2 (lw_meth q1163) rfl hz.1 hz.2 (E.1.2.2.2.2 _ q1155) (E.1.2.2.2.2 _ q1157) (va_Decl.abs (hX.2.1.1 _ q1156 rfl)) (E.1.2.2.2.2 _ q1161) (E.1.2.2.2.2 _ q1162) (E.1.2.2.2.2 _ q132) (by decide +kernel) hR) (hD.1 _ _ dX_1060) rfl rfl rfl hsz rfl hW hdg hcs kk
/-! X5_going_TB (III)J -/
abbrev rmX5_going_TB : Room := { frames := 44, cells := 0, slots := 0, locals := 1215 }
set_option maxHeartbeats 4000000 in
theorem wkX5_going_TB {x1 : Int32} {x2 : Int32} {x3 : Int32} {r_ : Int64} (E : EN p s m args meth c0 RX5 cX5_going 7 (Option.some Jvm.ClassFile.FieldType.long)) (hX : KX D G ad A s s.heap) (hD : XD dsc nr nw nu) (hA : ∀ q, PA dsc ad s.heap.size q → A q) (hf : xo_X5_going_TB (σ.1 1062) (σ.1 2013) (σ.1 2027) (σ.2.1 1061) (σ.2.2.1 1170) (σ.2.2.1 2043) (σ.2.2.2.1 1141) (σ.2.2.2.1 1150) nr (fun k => σ.1 (6000 + 16 * k + 2)) (fun k => σ.1 (6000 + 16 * k + 5)) (fun k => σ.1 (6000 + 16 * k + 6)) (fun k => σ.2.2.1 (4000 + 16 * k)) x1 x2 x3 = some r_) (hQ : Q = MQ below (va_G1 (some (.long r_)) (fun t => PIC D clsA G dsc ad σ t.heap) A) args s 0 0 A) (hP : PIC D clsA G dsc ad σ H) (hS : va_S A s.heap H locs) (hl : lv_has ls 7 [(0, .ref (ad 1060)), (1, .int x1), (2, .int x2), (3, .int x3)]) : W p l e rmX5_going_TB s m args below meth c0 H locs 0 0 Q (F0 m 0 ls []) := by
  obtain ⟨⟨hx, hb, hml, hown, hts⟩, hr, hlk⟩ := id E
  unfold xo_X5_going_TB at hf
  refine lv_aload_n hx hb dX5_going_0 rfl (lv_at hl 0 rfl) ?_
  refine gx_X5_3_1060 E hX hD hP dX5_going_1 ?_
  refine gx_X5_27_1000 E hX hD hP dX5_going_4 ?_
  refine lv_iload_n hx hb dX5_going_7 rfl (lv_at hl 1 rfl) ?_
  refine lv_iload_n hx hb dX5_going_8 rfl (lv_at hl 2 rfl) ?_
  refine lv_iload_n hx hb dX5_going_9 rfl (lv_at hl 3 rfl) ?_
  obtain ⟨v1, u2, hf⟩ := bdP hf
  refine cx_X5_102_X3_cost E hX hD hP hS hA (kxX3_cost l D G hD rfl rfl rfl rfl rfl rfl u2) ⟨rfl, rfl⟩ ⟨Nat.le_of_ble_eq_true rfl, Nat.le_of_ble_eq_true rfl⟩ ⟨Nat.zero_le _, Nat.zero_le _⟩ hl.1 (Nat.le_of_ble_eq_true rfl) dX5_going_10 (fun H locs hP hS => ?_)
  refine lv_istore (lv' := [(4, .int v1), (0, .ref (ad 1060)), (1, .int x1), (2, .int x2), (3, .int x3)]) hx hb dX5_going_13 hl (by decide) rfl (fun ls hl => ?_)
  refine lv_iload hx hb dX5_going_15 (lv_at hl 0 rfl) ?_
  refine lv_ldc hx hb hown (hts _ q1110) dX5_going_17 ?_
  refine lv_icmp_ne (tgt := 27) hx hb dX5_going_19 (by decide) (fun c3 => ?_) (fun c3 => ?_)
  · have hf := ifF c3 hf
    refine lv_aload_n hx hb dX5_going_27 rfl (lv_at hl 1 rfl) ?_
    refine lv_iload_n hx hb dX5_going_28 rfl (lv_at hl 3 rfl) ?_
    refine lv_iload_n hx hb dX5_going_29 rfl (lv_at hl 4 rfl) ?_
    obtain ⟨v4, u5, hf⟩ := bdP hf
    refine cx_X5_107_X5_arriving_TB E hX hD hP hS hA (kxX5_arriving_TB l D G hD rfl rfl rfl rfl rfl rfl rfl rfl u5) ⟨rfl, rfl⟩ ⟨Nat.le_of_ble_eq_true rfl, Nat.le_of_ble_eq_true rfl⟩ ⟨Nat.zero_le _, Nat.zero_le _⟩ hl.1 (Nat.le_of_ble_eq_true rfl) dX5_going_30 (fun H locs hP hS => ?_)
    refine lv_lstore (lv' := [(5, .long v4), (4, .int v1), (0, .ref (ad 1060)), (1, .int x1), (2, .int x2), (3, .int x3)]) hx hb dX5_going_33 hl (by decide) rfl (fun ls hl => ?_)
    refine lv_lload hx hb dX5_going_35 (lv_at hl 0 rfl) ?_
    refine lv_aload_n hx hb dX5_going_37 rfl (lv_at hl 2 rfl) ?_
    refine gx_X5_19_1060 (v := (σ.2.1 1061)) E hX hD hP rfl dX5_going_38 ?_
    refine W.lcmp hx hb dX5_going_41 ?_
    refine lv_if_ne (tgt := 52) hx hb dX5_going_42 (by decide) (fun c6 => ?_) (fun c6 => ?_)
    · have hf := ifF (mt (lgc_eq _ _).mpr c6) hf
      refine lv_aload_n hx hb dX5_going_52 rfl (lv_at hl 2 rfl) ?_
      refine lv_lload hx hb dX5_going_53 (lv_at hl 0 rfl) ?_
      refine lv_iload hx hb dX5_going_55 (lv_at hl 1 rfl) ?_
      refine lv_iload_n hx hb dX5_going_57 rfl (lv_at hl 5 rfl) ?_
      obtain ⟨v7, u8, hf⟩ := bdP hf
      refine cx_X5_110_X6_ahead_TB E hX hD hP hS hA (kxX6_ahead_TB l D G hD rfl rfl u8) ⟨rfl, rfl⟩ ⟨Nat.le_of_ble_eq_true rfl, Nat.le_of_ble_eq_true rfl⟩ ⟨Nat.zero_le _, Nat.zero_le _⟩ hl.1 (Nat.le_of_ble_eq_true rfl) dX5_going_58 (fun H locs hP hS => ?_)
      cases hf
      rw [hQ]; exact g_lret hx hb hr hlk hP hS dX5_going_61
    · have hf := ifT ((lgc_eq _ _).mp c6) hf
      refine lv_aload_n hx hb dX5_going_45 rfl (lv_at hl 2 rfl) ?_
      refine gx_X5_19_1060 (v := (σ.2.1 1061)) E hX hD hP rfl dX5_going_46 ?_
      refine lv_goto (tgt := 61) hx hb dX5_going_49 (by decide) ?_
      cases hf
      rw [hQ]; exact g_lret hx hb hr hlk hP hS dX5_going_61
  · have hf := ifT c3 hf
    refine lv_aload_n hx hb dX5_going_22 rfl (lv_at hl 1 rfl) ?_
    refine gx_X5_19_1060 (v := (σ.2.1 1061)) E hX hD hP rfl dX5_going_23 ?_
    cases hf
    rw [hQ]; exact g_lret hx hb hr hlk hP hS dX5_going_26
theorem kxX5_going_TB (l : Launch) (D : va_G) (G : Nat → ClassId) {dsc : Nat → Option Dsc} {ad : Nat → Nat} {σ : Sto} {nr nw nu : Nat} (hD : XD dsc nr nw nu) {x1 : Int32} {x2 : Int32} {x3 : Int32} {r_ : Int64} {z_TB_by : Int32} (e_zI1062 : σ.1 1062 = z_TB_by) {z_L_to : Int32} (e_zI2013 : σ.1 2013 = z_L_to) {z_Ld_size : Int32} (e_zI2027 : σ.1 2027 = z_Ld_size) {z_TB_none : Int64} (e_zL1061 : σ.2.1 1061 = z_TB_none) {a_UNIT : Nat → Int32} (e_aI1170 : σ.2.2.1 1170 = a_UNIT) {a_L_seen : Nat → Int32} (e_aI2043 : σ.2.2.1 2043 = a_L_seen) {a_W_likely : Nat → Int64} (e_aL1141 : σ.2.2.2.1 1141 = a_W_likely) {a_TB_value : Nat → Int64} (e_aL1150 : σ.2.2.2.1 1150 = a_TB_value) {n_r : Nat} (e_nN0 : nr = n_r) {p_road_hours : Nat → Int32} (e_pR2 : (fun k => σ.1 (6000 + 16 * k + 2)) = p_road_hours) {p_road_wait : Nat → Int32} (e_pR5 : (fun k => σ.1 (6000 + 16 * k + 5)) = p_road_wait) {p_road_number : Nat → Int32} (e_pR6 : (fun k => σ.1 (6000 + 16 * k + 6)) = p_road_number) {g_grid : Nat → Nat → Int32} (e_gG0 : (fun k => σ.2.2.1 (4000 + 16 * k)) = g_grid) (hf : xo_X5_going_TB z_TB_by z_L_to z_Ld_size z_TB_none a_UNIT a_L_seen a_W_likely a_TB_value n_r p_road_hours p_road_wait p_road_number g_grid x1 x2 x3 = some r_) : CtG l D G dsc ad yX5_going (ws_ yX5_going cX5_going 7 (Option.some Jvm.ClassFile.FieldType.long)) rmX5_going_TB [.ref (ad 1060), .int x1, .int x2, .int x3] σ (some (.long r_)) σ := by
  subst e_zI1062
  subst e_zI2013
  subst e_zI2027
  subst e_zL1061
  subst e_aI1170
  subst e_aI2043
  subst e_aL1141
  subst e_aL1150
  subst e_nN0
  subst e_pR2
  subst e_pR5
  subst e_pR6
  subst e_gG0
  exact p_ctG (by decide +kernel) (Nat.le_of_ble_eq_true rfl) (fun p e s m below meth c0 ls A E hP hX hA hS hl => wkX5_going_TB E hX hD hA hf rfl hP hS hl)
theorem gx_J2_48_2030 {v : Int32} (E : EN p s m args meth c0 RJ2 cc nL ret) (hX : KX D G ad A s s.heap) (hD : XD dsc nr nw nu) (hP : PIC D clsA G dsc ad σ H) (hv : σ.1 2032 = v) (hdg : decode cc pc = .ok (.getfield 48, 3)) (kk : W p l e R s m args below meth c0 H locs cells slots Q (F0 m (pc + 3) ls (.int v :: rest))) : W p l e R s m args below meth c0 H locs cells slots Q (F0 m pc ls (.ref (ad 2030) :: rest)) :=
  p_get E.1.1 E.1.2.1 E.1.2.2.2.2 in_J2 E.1.2.2.2.1 hX.1 hP (hD.1 _ _ dX_2030) rfl 2 (by decide) (E.1.2.2.2.2 _ q223) (fun _ h => h) rfl (congrArg Value.int hv) hdg kk
/-! J2_size_Lw ()I -/
abbrev rmJ2_size_Lw : Room := { frames := 0, cells := 0, slots := 0, locals := 0 }
set_option maxHeartbeats 4000000 in
theorem wkJ2_size_Lw {r_ : Int32} (E : EN p s m args meth c0 RJ2 cJ2_size 1 (Option.some Jvm.ClassFile.FieldType.int)) (hX : KX D G ad A s s.heap) (hD : XD dsc nr nw nu) (hA : ∀ q, PA dsc ad s.heap.size q → A q) (hf : xo_J2_size_Lw (σ.1 2032) = some r_) (hQ : Q = MQ below (va_G1 (some (.int r_)) (fun t => PIC D clsA G dsc ad σ t.heap) A) args s 0 0 A) (hP : PIC D clsA G dsc ad σ H) (hS : va_S A s.heap H locs) (hl : lv_has ls 1 [(0, .ref (ad 2030))]) : W p l e rmJ2_size_Lw s m args below meth c0 H locs 0 0 Q (F0 m 0 ls []) := by
  obtain ⟨⟨hx, hb, hml, hown, hts⟩, hr, hlk⟩ := id E
  unfold xo_J2_size_Lw at hf
  refine lv_aload_n hx hb dJ2_size_0 rfl (lv_at hl 0 rfl) ?_
  refine gx_J2_48_2030 (v := (σ.1 2032)) E hX hD hP rfl dJ2_size_1 ?_
  cases hf
  rw [hQ]; exact g_iret hx hb hr hlk hP hS dJ2_size_4
theorem kxJ2_size_Lw (l : Launch) (D : va_G) (G : Nat → ClassId) {dsc : Nat → Option Dsc} {ad : Nat → Nat} {σ : Sto} {nr nw nu : Nat} (hD : XD dsc nr nw nu) {r_ : Int32} {z_Lw_size : Int32} (e_zI2032 : σ.1 2032 = z_Lw_size) (hf : xo_J2_size_Lw z_Lw_size = some r_) : CtG l D G dsc ad yJ2_size (ws_ yJ2_size cJ2_size 1 (Option.some Jvm.ClassFile.FieldType.int)) rmJ2_size_Lw [.ref (ad 2030)] σ (some (.int r_)) σ := by
  subst e_zI2032
  exact p_ctG (by decide +kernel) (Nat.le_of_ble_eq_true rfl) (fun p e s m below meth c0 ls A E hP hX hA hS hl => wkJ2_size_Lw E hX hD hA hf rfl hP hS hl)
/-! J5_checkIndex (IILjava/util/function/BiFunction;)I -/
abbrev rmJ5_checkIndex : Room := { frames := 0, cells := 0, slots := 0, locals := 0 }
set_option maxHeartbeats 4000000 in
theorem wkJ5_checkIndex {x0 : Int32} {x1 : Int32} {r_ : Int32} (E : EN p s m args meth c0 RJ5 cJ5_checkIndex 3 (Option.some Jvm.ClassFile.FieldType.int)) (hX : KX D G ad A s s.heap) (hD : XD dsc nr nw nu) (hA : ∀ q, PA dsc ad s.heap.size q → A q) (hf : xo_J5_checkIndex x0 x1 = some r_) (hQ : Q = MQ below (va_G1 (some (.int r_)) (fun t => PIC D clsA G dsc ad σ t.heap) A) args s 0 0 A) (hP : PIC D clsA G dsc ad σ H) (hS : va_S A s.heap H locs) (hl : lv_has ls 3 [(0, .int x0), (1, .int x1), (2, .null)]) : W p l e rmJ5_checkIndex s m args below meth c0 H locs 0 0 Q (F0 m 0 ls []) := by
  obtain ⟨⟨hx, hb, hml, hown, hts⟩, hr, hlk⟩ := id E
  unfold xo_J5_checkIndex at hf
  refine lv_iload_n hx hb dJ5_checkIndex_0 rfl (lv_at hl 0 rfl) ?_
  refine lv_if_lt (tgt := 9) hx hb dJ5_checkIndex_1 (by decide) (fun c1 => ?_) (fun c1 => ?_)
  · have hf := ifT c1 hf
    cases hf
  · have hf := ifF c1 hf
    refine lv_iload_n hx hb dJ5_checkIndex_4 rfl (lv_at hl 0 rfl) ?_
    refine lv_iload_n hx hb dJ5_checkIndex_5 rfl (lv_at hl 1 rfl) ?_
    refine lv_icmp_lt (tgt := 16) hx hb dJ5_checkIndex_6 (by decide) (fun c2 => ?_) (fun c2 => ?_)
    · have hf := ifT c2 hf
      refine lv_iload_n hx hb dJ5_checkIndex_16 rfl (lv_at hl 0 rfl) ?_
      cases hf
      rw [hQ]; exact g_iret hx hb hr hlk hP hS dJ5_checkIndex_17
    · have hf := ifF c2 hf
      cases hf
theorem kxJ5_checkIndex (l : Launch) (D : va_G) (G : Nat → ClassId) {dsc : Nat → Option Dsc} {ad : Nat → Nat} {σ : Sto} {nr nw nu : Nat} (hD : XD dsc nr nw nu) {x0 : Int32} {x1 : Int32} {r_ : Int32} (hf : xo_J5_checkIndex x0 x1 = some r_) : CtG l D G dsc ad yJ5_checkIndex (ws_ yJ5_checkIndex cJ5_checkIndex 3 (Option.some Jvm.ClassFile.FieldType.int)) rmJ5_checkIndex [.int x0, .int x1, .null] σ (some (.int r_)) σ := by
  exact p_ctG (by decide +kernel) (Nat.le_of_ble_eq_true rfl) (fun p e s m below meth c0 ls A E hP hX hA hS hl => wkJ5_checkIndex E hX hD hA hf rfl hP hS hl)
theorem cx_J15_105_J5_checkIndex {rm : Room} {σ1 : Sto} {x0 : Int32} {x1 : Int32} {r : Int32} (E : EN p s m args meth c0 RJ15 cc nL ret) (hX : KX D G ad A s s.heap) (hD : XD dsc nr nw nu) (hP : PIC D clsA G dsc ad σ H) (hS : va_S A s.heap H locs) (hA : ∀ q, PA dsc ad s.heap.size q → A q) (hM : CtG l D G dsc ad yJ5_checkIndex (ws_ yJ5_checkIndex cJ5_checkIndex 3 (Option.some Jvm.ClassFile.FieldType.int)) rm [.int x0, .int x1, .null] σ (some (.int r)) σ1) (hz : rm.cells = 0 ∧ rm.slots = 0) (hR : rm.frames + 1 ≤ R.frames ∧ 8 + (3 + 11) + rm.locals ≤ R.locals) (hcs : cells ≤ R.cells ∧ slots ≤ R.slots) (hsz : ls.size = nL) (hW : (rest.map fun v => v.category).sum ≤ 8) (hdg : decode cc pc = .ok (.invokestatic 105, 3)) (kk : ∀ (H1 : Heap) (locs1 : List Loc), PIC D clsA G dsc ad σ1 H1 → va_S A s.heap H1 locs1 → W p l e R s m args below meth c0 H1 locs1 cells slots Q (F0 m (pc + 3) ls (.int r :: rest))) : W p l e R s m args below meth c0 H locs cells slots Q (F0 m pc ls (.null :: .int x1 :: .int x0 :: rest)) :=
  p_gS (As := [.int x0, .int x1, .null]) (rest := rest) E.1 hX hP hS hA hM (va_cwS 3 E.1.2.2.2.2 (lw_S q1017 q676 q145 q677) rfl hz.1 hz.2 (by decide +kernel) hR) rfl hsz rfl hW hdg hcs kk
/-! J15_checkIndex (II)I -/
abbrev rmJ15_checkIndex : Room := { frames := 1, cells := 0, slots := 0, locals := 22 }
set_option maxHeartbeats 4000000 in
theorem wkJ15_checkIndex {x0 : Int32} {x1 : Int32} {r_ : Int32} (E : EN p s m args meth c0 RJ15 cJ15_checkIndex 2 (Option.some Jvm.ClassFile.FieldType.int)) (hX : KX D G ad A s s.heap) (hD : XD dsc nr nw nu) (hA : ∀ q, PA dsc ad s.heap.size q → A q) (hf : xo_J15_checkIndex x0 x1 = some r_) (hQ : Q = MQ below (va_G1 (some (.int r_)) (fun t => PIC D clsA G dsc ad σ t.heap) A) args s 0 0 A) (hP : PIC D clsA G dsc ad σ H) (hS : va_S A s.heap H locs) (hl : lv_has ls 2 [(0, .int x0), (1, .int x1)]) : W p l e rmJ15_checkIndex s m args below meth c0 H locs 0 0 Q (F0 m 0 ls []) := by
  obtain ⟨⟨hx, hb, hml, hown, hts⟩, hr, hlk⟩ := id E
  unfold xo_J15_checkIndex at hf
  refine lv_iload_n hx hb dJ15_checkIndex_0 rfl (lv_at hl 0 rfl) ?_
  refine lv_iload_n hx hb dJ15_checkIndex_1 rfl (lv_at hl 1 rfl) ?_
  refine lv_null hx hb dJ15_checkIndex_2 ?_
  obtain ⟨v1, u2, hf⟩ := bdP hf
  refine cx_J15_105_J5_checkIndex E hX hD hP hS hA (kxJ5_checkIndex l D G hD u2) ⟨rfl, rfl⟩ ⟨Nat.le_of_ble_eq_true rfl, Nat.le_of_ble_eq_true rfl⟩ ⟨Nat.zero_le _, Nat.zero_le _⟩ hl.1 (Nat.le_of_ble_eq_true rfl) dJ15_checkIndex_3 (fun H locs hP hS => ?_)
  cases hf
  rw [hQ]; exact g_iret hx hb hr hlk hP hS dJ15_checkIndex_6
theorem kxJ15_checkIndex (l : Launch) (D : va_G) (G : Nat → ClassId) {dsc : Nat → Option Dsc} {ad : Nat → Nat} {σ : Sto} {nr nw nu : Nat} (hD : XD dsc nr nw nu) {x0 : Int32} {x1 : Int32} {r_ : Int32} (hf : xo_J15_checkIndex x0 x1 = some r_) : CtG l D G dsc ad yJ15_checkIndex (ws_ yJ15_checkIndex cJ15_checkIndex 2 (Option.some Jvm.ClassFile.FieldType.int)) rmJ15_checkIndex [.int x0, .int x1] σ (some (.int r_)) σ := by
  exact p_ctG (by decide +kernel) (Nat.le_of_ble_eq_true rfl) (fun p e s m below meth c0 ls A E hP hX hA hS hl => wkJ15_checkIndex E hX hD hA hf rfl hP hS hl)
theorem gx_J2_9_2030 (E : EN p s m args meth c0 RJ2 cc nL ret) (hX : KX D G ad A s s.heap) (hD : XD dsc nr nw nu) (hP : PIC D clsA G dsc ad σ H) (hdg : decode cc pc = .ok (.getfield 9, 3)) (kk : W p l e R s m args below meth c0 H locs cells slots Q (F0 m (pc + 3) ls (.ref (ad 2037) :: rest))) : W p l e R s m args below meth c0 H locs cells slots Q (F0 m pc ls (.ref (ad 2030) :: rest)) :=
  p_get E.1.1 E.1.2.1 E.1.2.2.2.2 in_J2 E.1.2.2.2.1 hX.1 hP (hD.1 _ _ dX_2030) rfl 1 (by decide) (E.1.2.2.2.2 _ q222) (fun _ h => h) rfl rfl hdg kk
/-! J2_elementData_Lw (I)Ljava/lang/Object; -/
abbrev rmJ2_elementData_Lw : Room := { frames := 0, cells := 0, slots := 0, locals := 0 }
set_option maxHeartbeats 4000000 in
theorem wkJ2_elementData_Lw {x1 : Int32} {r_ : Int32} (E : EN p s m args meth c0 RJ2 cJ2_elementData 2 (Option.some (Jvm.ClassFile.FieldType.object "java/lang/Object"))) (hX : KX D G ad A s s.heap) (hD : XD dsc nr nw nu) (hA : ∀ q, PA dsc ad s.heap.size q → A q) (hf : xo_J2_elementData_Lw (σ.2.2.1 2037) x1 = some r_) (hQ : Q = MQ below (va_G1 (some (va_rf (drf ad 8000 r_))) (fun t => PIC D clsA G dsc ad σ t.heap) A) args s 0 0 A) (hP : PIC D clsA G dsc ad σ H) (hS : va_S A s.heap H locs) (hl : lv_has ls 2 [(0, .ref (ad 2030)), (1, .int x1)]) : W p l e rmJ2_elementData_Lw s m args below meth c0 H locs 0 0 Q (F0 m 0 ls []) := by
  obtain ⟨⟨hx, hb, hml, hown, hts⟩, hr, hlk⟩ := id E
  unfold xo_J2_elementData_Lw at hf
  refine lv_aload_n hx hb dJ2_elementData_0 rfl (lv_at hl 0 rfl) ?_
  refine gx_J2_9_2030 E hX hD hP dJ2_elementData_1 ?_
  refine lv_iload_n hx hb dJ2_elementData_4 rfl (lv_at hl 1 rfl) ?_
  obtain ⟨v1, hv1, hf⟩ := bdP hf
  refine p_aald6 hx hb hX.1 hP (hD.1 _ _ dX_2037) rfl hv1 dJ2_elementData_5 ?_
  cases hf
  rw [hQ]; exact g_aret hx hb hr hlk hP hS dJ2_elementData_6
theorem kxJ2_elementData_Lw (l : Launch) (D : va_G) (G : Nat → ClassId) {dsc : Nat → Option Dsc} {ad : Nat → Nat} {σ : Sto} {nr nw nu : Nat} (hD : XD dsc nr nw nu) {x1 : Int32} {r_ : Int32} {a_Lw_data : Nat → Int32} (e_aI2037 : σ.2.2.1 2037 = a_Lw_data) (hf : xo_J2_elementData_Lw a_Lw_data x1 = some r_) : CtG l D G dsc ad yJ2_elementData (ws_ yJ2_elementData cJ2_elementData 2 (Option.some (Jvm.ClassFile.FieldType.object "java/lang/Object"))) rmJ2_elementData_Lw [.ref (ad 2030), .int x1] σ (some (va_rf (drf ad 8000 r_))) σ := by
  subst e_aI2037
  exact p_ctG (by decide +kernel) (Nat.le_of_ble_eq_true rfl) (fun p e s m below meth c0 ls A E hP hX hA hS hl => wkJ2_elementData_Lw E hX hD hA hf rfl hP hS hl)
theorem cx_J2_118_J15_checkIndex {rm : Room} {σ1 : Sto} {x0 : Int32} {x1 : Int32} {r : Int32} (E : EN p s m args meth c0 RJ2 cc nL ret) (hX : KX D G ad A s s.heap) (hD : XD dsc nr nw nu) (hP : PIC D clsA G dsc ad σ H) (hS : va_S A s.heap H locs) (hA : ∀ q, PA dsc ad s.heap.size q → A q) (hM : CtG l D G dsc ad yJ15_checkIndex (ws_ yJ15_checkIndex cJ15_checkIndex 2 (Option.some Jvm.ClassFile.FieldType.int)) rm [.int x0, .int x1] σ (some (.int r)) σ1) (hz : rm.cells = 0 ∧ rm.slots = 0) (hR : rm.frames + 1 ≤ R.frames ∧ 8 + (2 + 11) + rm.locals ≤ R.locals) (hcs : cells ≤ R.cells ∧ slots ≤ R.slots) (hsz : ls.size = nL) (hW : (rest.map fun v => v.category).sum ≤ 8) (hdg : decode cc pc = .ok (.invokestatic 118, 3)) (kk : ∀ (H1 : Heap) (locs1 : List Loc), PIC D clsA G dsc ad σ1 H1 → va_S A s.heap H1 locs1 → W p l e R s m args below meth c0 H1 locs1 cells slots Q (F0 m (pc + 3) ls (.int r :: rest))) : W p l e R s m args below meth c0 H locs cells slots Q (F0 m pc ls (.int x1 :: .int x0 :: rest)) :=
  p_gS (As := [.int x0, .int x1]) (rest := rest) E.1 hX hP hS hA hM (va_cwS 2 E.1.2.2.2.2 (lw_S q1014 q1015 q159 q1016) rfl hz.1 hz.2 (by decide +kernel) hR) rfl hsz rfl hW hdg hcs kk
theorem cx_J2_123_J2_elementData_Lw {rm : Room} {σ1 : Sto} {x1 : Int32} {r : Int32} (E : EN p s m args meth c0 RJ2 cc nL ret) (hX : KX D G ad A s s.heap) (hD : XD dsc nr nw nu) (hP : PIC D clsA G dsc ad σ H) (hS : va_S A s.heap H locs) (hA : ∀ q, PA dsc ad s.heap.size q → A q) (hM : CtG l D G dsc ad yJ2_elementData (ws_ yJ2_elementData cJ2_elementData 2 (Option.some (Jvm.ClassFile.FieldType.object "java/lang/Object"))) rm [.ref (ad 2030), .int x1] σ (some (va_rf (drf ad 8000 r))) σ1) (hz : rm.cells = 0 ∧ rm.slots = 0) (hR : rm.frames + 1 ≤ R.frames ∧ 8 + (2 + 11) + rm.locals ≤ R.locals) (hcs : cells ≤ R.cells ∧ slots ≤ R.slots) (hsz : ls.size = nL) (hW : (rest.map fun v => v.category).sum ≤ 8) (hdg : decode cc pc = .ok (.invokevirtual 123, 3)) (kk : ∀ (H1 : Heap) (locs1 : List Loc), PIC D clsA G dsc ad σ1 H1 → va_S A s.heap H1 locs1 → W p l e R s m args below meth c0 H1 locs1 cells slots Q (F0 m (pc + 3) ls (va_rf (drf ad 8000 r) :: rest))) : W p l e R s m args below meth c0 H locs cells slots Q (F0 m pc ls (.int x1 :: .ref (ad 2030) :: rest)) :=
  p_gV (As := [.int x1]) (rest := rest) E.1 hX hP hS hA hM (cwV 1 E.1.2.2.2.2 (lw_V q1018 q1019 q1020 q129 q1021) rfl hz.1 hz.2 (by decide +kernel) hR) (hD.1 _ _ dX_2030) rfl rfl rfl hsz rfl hW hdg hcs kk
/-! J2_get_Lw (I)Ljava/lang/Object; -/
abbrev rmJ2_get_Lw : Room := { frames := 2, cells := 0, slots := 0, locals := 43 }
set_option maxHeartbeats 4000000 in
theorem wkJ2_get_Lw {x1 : Int32} {r_ : Int32} (E : EN p s m args meth c0 RJ2 cJ2_get 2 (Option.some (Jvm.ClassFile.FieldType.object "java/lang/Object"))) (hX : KX D G ad A s s.heap) (hD : XD dsc nr nw nu) (hA : ∀ q, PA dsc ad s.heap.size q → A q) (hf : xo_J2_get_Lw (σ.1 2032) (σ.2.2.1 2037) x1 = some r_) (hQ : Q = MQ below (va_G1 (some (va_rf (drf ad 8000 r_))) (fun t => PIC D clsA G dsc ad σ t.heap) A) args s 0 0 A) (hP : PIC D clsA G dsc ad σ H) (hS : va_S A s.heap H locs) (hl : lv_has ls 2 [(0, .ref (ad 2030)), (1, .int x1)]) : W p l e rmJ2_get_Lw s m args below meth c0 H locs 0 0 Q (F0 m 0 ls []) := by
  obtain ⟨⟨hx, hb, hml, hown, hts⟩, hr, hlk⟩ := id E
  unfold xo_J2_get_Lw at hf
  refine lv_iload_n hx hb dJ2_get_0 rfl (lv_at hl 1 rfl) ?_
  refine lv_aload_n hx hb dJ2_get_1 rfl (lv_at hl 0 rfl) ?_
  refine gx_J2_48_2030 (v := (σ.1 2032)) E hX hD hP rfl dJ2_get_2 ?_
  obtain ⟨v1, u2, hf⟩ := bdP hf
  refine cx_J2_118_J15_checkIndex E hX hD hP hS hA (kxJ15_checkIndex l D G hD u2) ⟨rfl, rfl⟩ ⟨Nat.le_of_ble_eq_true rfl, Nat.le_of_ble_eq_true rfl⟩ ⟨Nat.zero_le _, Nat.zero_le _⟩ hl.1 (Nat.le_of_ble_eq_true rfl) dJ2_get_5 (fun H locs hP hS => ?_)
  refine lv_pop hx hb dJ2_get_8 rfl ?_
  refine lv_aload_n hx hb dJ2_get_9 rfl (lv_at hl 0 rfl) ?_
  refine lv_iload_n hx hb dJ2_get_10 rfl (lv_at hl 1 rfl) ?_
  obtain ⟨v3, u4, hf⟩ := bdP hf
  refine cx_J2_123_J2_elementData_Lw E hX hD hP hS hA (kxJ2_elementData_Lw l D G hD rfl u4) ⟨rfl, rfl⟩ ⟨Nat.le_of_ble_eq_true rfl, Nat.le_of_ble_eq_true rfl⟩ ⟨Nat.zero_le _, Nat.zero_le _⟩ hl.1 (Nat.le_of_ble_eq_true rfl) dJ2_get_11 (fun H locs hP hS => ?_)
  cases hf
  rw [hQ]; exact g_aret hx hb hr hlk hP hS dJ2_get_14
theorem kxJ2_get_Lw (l : Launch) (D : va_G) (G : Nat → ClassId) {dsc : Nat → Option Dsc} {ad : Nat → Nat} {σ : Sto} {nr nw nu : Nat} (hD : XD dsc nr nw nu) {x1 : Int32} {r_ : Int32} {z_Lw_size : Int32} (e_zI2032 : σ.1 2032 = z_Lw_size) {a_Lw_data : Nat → Int32} (e_aI2037 : σ.2.2.1 2037 = a_Lw_data) (hf : xo_J2_get_Lw z_Lw_size a_Lw_data x1 = some r_) : CtG l D G dsc ad yJ2_get (ws_ yJ2_get cJ2_get 2 (Option.some (Jvm.ClassFile.FieldType.object "java/lang/Object"))) rmJ2_get_Lw [.ref (ad 2030), .int x1] σ (some (va_rf (drf ad 8000 r_))) σ := by
  subst e_zI2032
  subst e_aI2037
  exact p_ctG (by decide +kernel) (Nat.le_of_ble_eq_true rfl) (fun p e s m below meth c0 ls A E hP hX hA hS hl => wkJ2_get_Lw E hX hD hA hf rfl hP hS hl)
theorem gx_X5_92_2000 (E : EN p s m args meth c0 RX5 cc nL ret) (hX : KX D G ad A s s.heap) (hD : XD dsc nr nw nu) (hP : PIC D clsA G dsc ad σ H) (hdg : decode cc pc = .ok (.getfield 92, 3)) (kk : W p l e R s m args below meth c0 H locs cells slots Q (F0 m (pc + 3) ls (.ref (ad 2030) :: rest))) : W p l e R s m args below meth c0 H locs cells slots Q (F0 m pc ls (.ref (ad 2000) :: rest)) :=
  p_getN E.1.1 E.1.2.1 E.1.2.2.2.2 in_X3 E.1.2.2.2.1 hX.1 hP (hD.1 _ _ dX_2000) rfl 2 (by decide) (hX.2.1.1 _ q249 rfl) (fun _ h => h) rfl rfl hdg kk
theorem cx_X5_135_J2_get_Lw {rm : Room} {σ1 : Sto} {x1 : Int32} {r : Int32} (E : EN p s m args meth c0 RX5 cc nL ret) (hX : KX D G ad A s s.heap) (hD : XD dsc nr nw nu) (hP : PIC D clsA G dsc ad σ H) (hS : va_S A s.heap H locs) (hA : ∀ q, PA dsc ad s.heap.size q → A q) (hM : CtG l D G dsc ad yJ2_get (ws_ yJ2_get cJ2_get 2 (Option.some (Jvm.ClassFile.FieldType.object "java/lang/Object"))) rm [.ref (ad 2030), .int x1] σ (some (va_rf (drf ad 8000 r))) σ1) (hz : rm.cells = 0 ∧ rm.slots = 0) (hR : rm.frames + 1 ≤ R.frames ∧ 8 + (2 + 11) + rm.locals ≤ R.locals) (hcs : cells ≤ R.cells ∧ slots ≤ R.slots) (hsz : ls.size = nL) (hW : (rest.map fun v => v.category).sum ≤ 8) (hdg : decode cc pc = .ok (.invokevirtual 135, 3)) (kk : ∀ (H1 : Heap) (locs1 : List Loc), PIC D clsA G dsc ad σ1 H1 → va_S A s.heap H1 locs1 → W p l e R s m args below meth c0 H1 locs1 cells slots Q (F0 m (pc + 3) ls (va_rf (drf ad 8000 r) :: rest))) : W p l e R s m args below meth c0 H locs cells slots Q (F0 m pc ls (.int x1 :: .ref (ad 2030) :: rest)) :=
  p_gV (As := [.int x1]) (rest := rest) E.1 hX hP hS hA hM (cwV 1 E.1.2.2.2.2 (lw_V q1188 q1011 q1012 q129 q1013) rfl hz.1 hz.2 (by decide +kernel) hR) (hD.1 _ _ dX_2030) rfl rfl rfl hsz rfl hW hdg hcs kk
theorem gp_X5_141_W {v h : Int32} {f : Nat → Int32} (E : EN p s m args meth c0 RX5 cc nL ret) (hX : KX D G ad A s s.heap) (hD : XD dsc nr nw nu) (hP : PIC D clsA G dsc ad σ H) (hf : (fun k => σ.1 (8000 + 16 * k + 0)) = f) (hv : rdI f nw v = some h) (hdg : decode cc pc = .ok (.getfield 141, 3)) (kk : W p l e R s m args below meth c0 H locs cells slots Q (F0 m (pc + 3) ls (.int h :: rest))) : W p l e R s m args below meth c0 H locs cells slots Q (F0 m pc ls (va_rf (drf ad 8000 v) :: rest)) := by
  subst hf
  obtain ⟨h0, h1, h2⟩ := pool_ok hv
  exact p_nn h0 (p_getN E.1.1 E.1.2.1 E.1.2.2.2.2 in_X19 E.1.2.2.2.1 hX.1 hP (hD.2.2.1 _ h1) rfl 0 (by decide) (hX.2.1.1 _ q958 rfl) (fun _ h => h) rfl (congrArg Value.int h2) hdg kk)
theorem gp_X5_144_W {v h : Int32} {f : Nat → Int32} (E : EN p s m args meth c0 RX5 cc nL ret) (hX : KX D G ad A s s.heap) (hD : XD dsc nr nw nu) (hP : PIC D clsA G dsc ad σ H) (hf : (fun k => σ.1 (8000 + 16 * k + 1)) = f) (hv : rdI f nw v = some h) (hdg : decode cc pc = .ok (.getfield 144, 3)) (kk : W p l e R s m args below meth c0 H locs cells slots Q (F0 m (pc + 3) ls (.int h :: rest))) : W p l e R s m args below meth c0 H locs cells slots Q (F0 m pc ls (va_rf (drf ad 8000 v) :: rest)) := by
  subst hf
  obtain ⟨h0, h1, h2⟩ := pool_ok hv
  exact p_nn h0 (p_getN E.1.1 E.1.2.1 E.1.2.2.2.2 in_X19 E.1.2.2.2.1 hX.1 hP (hD.2.2.1 _ h1) rfl 1 (by decide) (hX.2.1.1 _ q962 rfl) (fun _ h => h) rfl (congrArg Value.int h2) hdg kk)
theorem cx_X5_59_X1_digit {rm : Room} {σ1 : Sto} {x0 : Int32} {x1 : Int32} {r : Int32} (E : EN p s m args meth c0 RX5 cc nL ret) (hX : KX D G ad A s s.heap) (hD : XD dsc nr nw nu) (hP : PIC D clsA G dsc ad σ H) (hS : va_S A s.heap H locs) (hA : ∀ q, PA dsc ad s.heap.size q → A q) (hM : CtG l D G dsc ad yX1_digit (ws_ yX1_digit cX1_digit 2 (Option.some Jvm.ClassFile.FieldType.int)) rm [.int x0, .int x1] σ (some (.int r)) σ1) (hz : rm.cells = 0 ∧ rm.slots = 0) (hR : rm.frames + 1 ≤ R.frames ∧ 8 + (2 + 11) + rm.locals ≤ R.locals) (hcs : cells ≤ R.cells ∧ slots ≤ R.slots) (hsz : ls.size = nL) (hW : (rest.map fun v => v.category).sum ≤ 8) (hdg : decode cc pc = .ok (.invokestatic 59, 3)) (kk : ∀ (H1 : Heap) (locs1 : List Loc), PIC D clsA G dsc ad σ1 H1 → va_S A s.heap H1 locs1 → W p l e R s m args below meth c0 H1 locs1 cells slots Q (F0 m (pc + 3) ls (.int r :: rest))) : W p l e R s m args below meth c0 H locs cells slots Q (F0 m pc ls (.int x1 :: .int x0 :: rest)) :=
  p_gSN (As := [.int x0, .int x1]) (rest := rest) E.1 hX hP hS hA hM ⟨va_cnB 2 E.1.2.2.2.2 (lw_meth q1038) rfl hz.1 hz.2 (hX.2.1.1 _ q1060 rfl) (E.1.2.2.2.2 _ q124) (by decide +kernel) hR, (E.1.2.2.2.2 _ q1037), trivial⟩ rfl hsz rfl hW hdg hcs kk
theorem gp_X5_147_W {v h : Int32} {f : Nat → Int32} (E : EN p s m args meth c0 RX5 cc nL ret) (hX : KX D G ad A s s.heap) (hD : XD dsc nr nw nu) (hP : PIC D clsA G dsc ad σ H) (hf : (fun k => σ.1 (8000 + 16 * k + 2)) = f) (hv : rdI f nw v = some h) (hdg : decode cc pc = .ok (.getfield 147, 3)) (kk : W p l e R s m args below meth c0 H locs cells slots Q (F0 m (pc + 3) ls (.int h :: rest))) : W p l e R s m args below meth c0 H locs cells slots Q (F0 m pc ls (va_rf (drf ad 8000 v) :: rest)) := by
  subst hf
  obtain ⟨h0, h1, h2⟩ := pool_ok hv
  exact p_nn h0 (p_getN E.1.1 E.1.2.1 E.1.2.2.2.2 in_X19 E.1.2.2.2.1 hX.1 hP (hD.2.2.1 _ h1) rfl 2 (by decide) (hX.2.1.1 _ q966 rfl) (fun _ h => h) rfl (congrArg Value.int h2) hdg kk)
/-! X5_buying_TB (III)J -/
abbrev rmX5_buying_TB : Room := { frames := 43, cells := 0, slots := 0, locals := 1193 }
set_option maxHeartbeats 4000000 in
theorem wkX5_buying_TB {x1 : Int32} {x2 : Int32} {x3 : Int32} {r_ : Int64} (E : EN p s m args meth c0 RX5 cX5_buying 7 (Option.some Jvm.ClassFile.FieldType.long)) (hX : KX D G ad A s s.heap) (hD : XD dsc nr nw nu) (hA : ∀ q, PA dsc ad s.heap.size q → A q) (hf : xo_X5_buying_TB (σ.1 1062) (σ.1 2013) (σ.1 2027) (σ.1 2032) (σ.2.1 1061) (σ.2.2.1 1170) (σ.2.2.1 2037) (σ.2.2.1 2043) (σ.2.2.2.1 1141) (σ.2.2.2.1 1150) nw (fun k => σ.1 (8000 + 16 * k + 0)) (fun k => σ.1 (8000 + 16 * k + 1)) (fun k => σ.1 (8000 + 16 * k + 2)) x1 x2 x3 = some r_) (hQ : Q = MQ below (va_G1 (some (.long r_)) (fun t => PIC D clsA G dsc ad σ t.heap) A) args s 0 0 A) (hP : PIC D clsA G dsc ad σ H) (hS : va_S A s.heap H locs) (hl : lv_has ls 7 [(0, .ref (ad 1060)), (1, .int x1), (2, .int x2), (3, .int x3)]) : W p l e rmX5_buying_TB s m args below meth c0 H locs 0 0 Q (F0 m 0 ls []) := by
  obtain ⟨⟨hx, hb, hml, hown, hts⟩, hr, hlk⟩ := id E
  unfold xo_X5_buying_TB at hf
  refine lv_aload_n hx hb dX5_buying_0 rfl (lv_at hl 0 rfl) ?_
  refine gx_X5_3_1060 E hX hD hP dX5_buying_1 ?_
  refine gx_X5_27_1000 E hX hD hP dX5_buying_4 ?_
  refine gx_X5_92_2000 E hX hD hP dX5_buying_7 ?_
  refine lv_iload_n hx hb dX5_buying_10 rfl (lv_at hl 2 rfl) ?_
  obtain ⟨v1, u2, hf⟩ := bdP hf
  refine cx_X5_135_J2_get_Lw E hX hD hP hS hA (kxJ2_get_Lw l D G hD rfl rfl u2) ⟨rfl, rfl⟩ ⟨Nat.le_of_ble_eq_true rfl, Nat.le_of_ble_eq_true rfl⟩ ⟨Nat.zero_le _, Nat.zero_le _⟩ hl.1 (Nat.le_of_ble_eq_true rfl) dX5_buying_11 (fun H locs hP hS => ?_)
  obtain ⟨v3, hv3, hf⟩ := bdP hf
  refine p_castP (ci := 16) (q := (RX19, TX19, 3)) hx hb hX.1 hP hown (hts _ q1189) hv3 hD.2.2.1 rfl dX5_buying_14 ?_
  refine r_astore (lv' := [(4, va_rf (drf ad 8000 v3)), (0, .ref (ad 1060)), (1, .int x1), (2, .int x2), (3, .int x3)]) hx hb dX5_buying_17 hl (by decide) rfl (fun ls hl => ?_)
  refine r_aload hx hb dX5_buying_19 (lv_at hl 0 rfl) ?_
  obtain ⟨v4, hv4, hf⟩ := bdP hf
  refine gp_X5_141_W E hX hD hP rfl hv4 dX5_buying_21 ?_
  refine lv_iload_n hx hb dX5_buying_24 rfl (lv_at hl 2 rfl) ?_
  have J40 : xo_X5_buying_TB_J40 (σ.2.1 1061) = some r_ → ∀ (H : Heap) (locs : List Loc), PIC D clsA G dsc ad σ H → va_S A s.heap H locs → ∀ (ls : Array Slot), lv_has ls 7 [(0, .ref (ad 1060))] → W p l e rmX5_buying_TB s m args below meth c0 H locs 0 0 Q (F0 m 40 ls []) := by
    intro  hf H locs hP hS ls hl
    unfold xo_X5_buying_TB_J40 at hf
    refine lv_aload_n hx hb dX5_buying_40 rfl (lv_at hl 0 rfl) ?_
    refine gx_X5_19_1060 (v := (σ.2.1 1061)) E hX hD hP rfl dX5_buying_41 ?_
    cases hf
    rw [hQ]; exact g_lret hx hb hr hlk hP hS dX5_buying_44
  refine lv_icmp_ne (tgt := 40) hx hb dX5_buying_25 (by decide) (fun c5 => ?_) (fun c5 => ?_)
  · have hf := ifF c5 hf
    exact J40  hf H locs hP hS ls (lv_sub hl [1] rfl)
  · have hf := ifT c5 hf
    refine lv_iload_n hx hb dX5_buying_28 rfl (lv_at hl 4 rfl) ?_
    refine r_aload hx hb dX5_buying_29 (lv_at hl 0 rfl) ?_
    obtain ⟨v6, hv6, hf⟩ := bdP hf
    refine gp_X5_144_W E hX hD hP rfl hv6 dX5_buying_31 ?_
    obtain ⟨v7, u8, hf⟩ := bdP hf
    refine cx_X5_59_X1_digit E hX hD hP hS hA (kxX1_digit l D G hD rfl u8) ⟨rfl, rfl⟩ ⟨Nat.le_of_ble_eq_true rfl, Nat.le_of_ble_eq_true rfl⟩ ⟨Nat.zero_le _, Nat.zero_le _⟩ hl.1 (Nat.le_of_ble_eq_true rfl) dX5_buying_34 (fun H locs hP hS => ?_)
    refine lv_if_eq (tgt := 45) hx hb dX5_buying_37 (by decide) (fun c9 => ?_) (fun c9 => ?_)
    · have hf := ifT c9 hf
      refine lv_aload_n hx hb dX5_buying_45 rfl (lv_at hl 1 rfl) ?_
      refine lv_iconst hx hb dX5_buying_46 ic_1 ?_
      refine r_aload hx hb dX5_buying_47 (lv_at hl 0 rfl) ?_
      obtain ⟨v10, hv10, hf⟩ := bdP hf
      refine gp_X5_144_W E hX hD hP rfl hv10 dX5_buying_49 ?_
      refine lv_ishl hx hb dX5_buying_52 ?_
      refine lv_iload_n hx hb dX5_buying_53 rfl (lv_at hl 2 rfl) ?_
      refine lv_iload_n hx hb dX5_buying_54 rfl (lv_at hl 4 rfl) ?_
      obtain ⟨v11, u12, hf⟩ := bdP hf
      refine cx_X5_114_X5_over_TB E hX hD hP hS hA (kxX5_over_TB l D G hD rfl rfl rfl rfl rfl rfl rfl rfl u12) ⟨rfl, rfl⟩ ⟨Nat.le_of_ble_eq_true rfl, Nat.le_of_ble_eq_true rfl⟩ ⟨Nat.zero_le _, Nat.zero_le _⟩ hl.1 (Nat.le_of_ble_eq_true rfl) dX5_buying_55 (fun H locs hP hS => ?_)
      refine lv_lstore (i := 5) (lv' := [(5, .long v11), (4, va_rf (drf ad 8000 v3)), (0, .ref (ad 1060)), (1, .int x1), (2, .int x2), (3, .int x3)]) hx hb dX5_buying_58 hl (by decide) (by simp [List.filter_cons, rf_cat]) (fun ls hl => ?_)
      refine lv_lload hx hb dX5_buying_60 (lv_at hl 0 rfl) ?_
      refine lv_aload_n hx hb dX5_buying_62 rfl (lv_at hl 2 rfl) ?_
      refine gx_X5_19_1060 (v := (σ.2.1 1061)) E hX hD hP rfl dX5_buying_63 ?_
      refine W.lcmp hx hb dX5_buying_66 ?_
      refine lv_if_ne (tgt := 77) hx hb dX5_buying_67 (by decide) (fun c13 => ?_) (fun c13 => ?_)
      · have hf := ifF (mt (lgc_eq _ _).mpr c13) hf
        refine lv_aload_n hx hb dX5_buying_77 rfl (lv_at hl 2 rfl) ?_
        refine lv_lload hx hb dX5_buying_78 (lv_at hl 0 rfl) ?_
        refine r_aload hx hb dX5_buying_80 (lv_at hl 1 rfl) ?_
        obtain ⟨v14, hv14, hf⟩ := bdP hf
        refine gp_X5_147_W E hX hD hP rfl hv14 dX5_buying_82 ?_
        refine lv_iload_n hx hb dX5_buying_85 rfl (lv_at hl 5 rfl) ?_
        obtain ⟨v15, u16, hf⟩ := bdP hf
        refine cx_X5_110_X6_ahead_TB E hX hD hP hS hA (kxX6_ahead_TB l D G hD rfl rfl u16) ⟨rfl, rfl⟩ ⟨Nat.le_of_ble_eq_true rfl, Nat.le_of_ble_eq_true rfl⟩ ⟨Nat.zero_le _, Nat.zero_le _⟩ hl.1 (Nat.le_of_ble_eq_true rfl) dX5_buying_86 (fun H locs hP hS => ?_)
        cases hf
        rw [hQ]; exact g_lret hx hb hr hlk hP hS dX5_buying_89
      · have hf := ifT ((lgc_eq _ _).mp c13) hf
        refine lv_aload_n hx hb dX5_buying_70 rfl (lv_at hl 2 rfl) ?_
        refine gx_X5_19_1060 (v := (σ.2.1 1061)) E hX hD hP rfl dX5_buying_71 ?_
        refine lv_goto (tgt := 89) hx hb dX5_buying_74 (by decide) ?_
        cases hf
        rw [hQ]; exact g_lret hx hb hr hlk hP hS dX5_buying_89
    · have hf := ifF c9 hf
      exact J40  hf H locs hP hS ls (lv_sub hl [1] rfl)
theorem kxX5_buying_TB (l : Launch) (D : va_G) (G : Nat → ClassId) {dsc : Nat → Option Dsc} {ad : Nat → Nat} {σ : Sto} {nr nw nu : Nat} (hD : XD dsc nr nw nu) {x1 : Int32} {x2 : Int32} {x3 : Int32} {r_ : Int64} {z_TB_by : Int32} (e_zI1062 : σ.1 1062 = z_TB_by) {z_L_to : Int32} (e_zI2013 : σ.1 2013 = z_L_to) {z_Ld_size : Int32} (e_zI2027 : σ.1 2027 = z_Ld_size) {z_Lw_size : Int32} (e_zI2032 : σ.1 2032 = z_Lw_size) {z_TB_none : Int64} (e_zL1061 : σ.2.1 1061 = z_TB_none) {a_UNIT : Nat → Int32} (e_aI1170 : σ.2.2.1 1170 = a_UNIT) {a_Lw_data : Nat → Int32} (e_aI2037 : σ.2.2.1 2037 = a_Lw_data) {a_L_seen : Nat → Int32} (e_aI2043 : σ.2.2.1 2043 = a_L_seen) {a_W_likely : Nat → Int64} (e_aL1141 : σ.2.2.2.1 1141 = a_W_likely) {a_TB_value : Nat → Int64} (e_aL1150 : σ.2.2.2.1 1150 = a_TB_value) {n_w : Nat} (e_nN1 : nw = n_w) {p_word_place : Nat → Int32} (e_pW0 : (fun k => σ.1 (8000 + 16 * k + 0)) = p_word_place) {p_word_road : Nat → Int32} (e_pW1 : (fun k => σ.1 (8000 + 16 * k + 1)) = p_word_road) {p_word_hours : Nat → Int32} (e_pW2 : (fun k => σ.1 (8000 + 16 * k + 2)) = p_word_hours) (hf : xo_X5_buying_TB z_TB_by z_L_to z_Ld_size z_Lw_size z_TB_none a_UNIT a_Lw_data a_L_seen a_W_likely a_TB_value n_w p_word_place p_word_road p_word_hours x1 x2 x3 = some r_) : CtG l D G dsc ad yX5_buying (ws_ yX5_buying cX5_buying 7 (Option.some Jvm.ClassFile.FieldType.long)) rmX5_buying_TB [.ref (ad 1060), .int x1, .int x2, .int x3] σ (some (.long r_)) σ := by
  subst e_zI1062
  subst e_zI2013
  subst e_zI2027
  subst e_zI2032
  subst e_zL1061
  subst e_aI1170
  subst e_aI2037
  subst e_aI2043
  subst e_aL1141
  subst e_aL1150
  subst e_nN1
  subst e_pW0
  subst e_pW1
  subst e_pW2
  exact p_ctG (by decide +kernel) (Nat.le_of_ble_eq_true rfl) (fun p e s m below meth c0 ls A E hP hX hA hS hl => wkX5_buying_TB E hX hD hA hf rfl hP hS hl)
theorem gx_X5_63_2000 {v : Int32} (E : EN p s m args meth c0 RX5 cc nL ret) (hX : KX D G ad A s s.heap) (hD : XD dsc nr nw nu) (hP : PIC D clsA G dsc ad σ H) (hv : σ.1 2008 = v) (hdg : decode cc pc = .ok (.getfield 63, 3)) (kk : W p l e R s m args below meth c0 H locs cells slots Q (F0 m (pc + 3) ls (.int v :: rest))) : W p l e R s m args below meth c0 H locs cells slots Q (F0 m pc ls (.ref (ad 2000) :: rest)) :=
  p_getN E.1.1 E.1.2.1 E.1.2.2.2.2 in_X3 E.1.2.2.2.1 hX.1 hP (hD.1 _ _ dX_2000) rfl 8 (by decide) (hX.2.1.1 _ q265 rfl) (fun _ h => h) rfl (congrArg Value.int hv) hdg kk
theorem cx_X5_84_X5_going_TB {rm : Room} {σ1 : Sto} {x1 : Int32} {x2 : Int32} {x3 : Int32} {r : Int64} (E : EN p s m args meth c0 RX5 cc nL ret) (hX : KX D G ad A s s.heap) (hD : XD dsc nr nw nu) (hP : PIC D clsA G dsc ad σ H) (hS : va_S A s.heap H locs) (hA : ∀ q, PA dsc ad s.heap.size q → A q) (hM : CtG l D G dsc ad yX5_going (ws_ yX5_going cX5_going 7 (Option.some Jvm.ClassFile.FieldType.long)) rm [.ref (ad 1060), .int x1, .int x2, .int x3] σ (some (.long r)) σ1) (hz : rm.cells = 0 ∧ rm.slots = 0) (hR : rm.frames + 1 ≤ R.frames ∧ 8 + (7 + 11) + rm.locals ≤ R.locals) (hcs : cells ≤ R.cells ∧ slots ≤ R.slots) (hsz : ls.size = nL) (hW : (rest.map fun v => v.category).sum ≤ 8) (hdg : decode cc pc = .ok (.invokevirtual 84, 3)) (kk : ∀ (H1 : Heap) (locs1 : List Loc), PIC D clsA G dsc ad σ1 H1 → va_S A s.heap H1 locs1 → W p l e R s m args below meth c0 H1 locs1 cells slots Q (F0 m (pc + 3) ls (.long r :: rest))) : W p l e R s m args below meth c0 H locs cells slots Q (F0 m pc ls (.int x3 :: .int x2 :: .int x1 :: .ref (ad 1060) :: rest)) :=
  p_gU (As := [.int x1, .int x2, .int x3]) (rest := rest) E.1 hX hP hS hA hM (cw_any (owner := "ShutPasses$Table") (x := ⟨"ShutPasses$Table", "going", "(III)J"⟩) (y := yX5_going) (C := "ShutPasses$InMean") (index := 84) (own := RX5) 3 E.1.2.2.2.2 (lw_meth q1103) rfl hz.1 hz.2 (E.1.2.2.2.2 _ q1097) (E.1.2.2.2.2 _ q1099) (va_Decl.of (E.1.2.2.2.2 _ q1098) (E.1.2.2.2.2 _ q1103)) (E.1.2.2.2.2 _ q1101) (E.1.2.2.2.2 _ q1098) (E.1.2.2.2.2 _ q131) (by decide +kernel) hR) (hD.1 _ _ dX_1060) rfl rfl rfl hsz rfl hW hdg hcs kk
theorem cx_X5_37_J2_size_Lw {rm : Room} {σ1 : Sto} {r : Int32} (E : EN p s m args meth c0 RX5 cc nL ret) (hX : KX D G ad A s s.heap) (hD : XD dsc nr nw nu) (hP : PIC D clsA G dsc ad σ H) (hS : va_S A s.heap H locs) (hA : ∀ q, PA dsc ad s.heap.size q → A q) (hM : CtG l D G dsc ad yJ2_size (ws_ yJ2_size cJ2_size 1 (Option.some Jvm.ClassFile.FieldType.int)) rm [.ref (ad 2030)] σ (some (.int r)) σ1) (hz : rm.cells = 0 ∧ rm.slots = 0) (hR : rm.frames + 1 ≤ R.frames ∧ 8 + (1 + 11) + rm.locals ≤ R.locals) (hcs : cells ≤ R.cells ∧ slots ≤ R.slots) (hsz : ls.size = nL) (hW : (rest.map fun v => v.category).sum ≤ 8) (hdg : decode cc pc = .ok (.invokevirtual 37, 3)) (kk : ∀ (H1 : Heap) (locs1 : List Loc), PIC D clsA G dsc ad σ1 H1 → va_S A s.heap H1 locs1 → W p l e R s m args below meth c0 H1 locs1 cells slots Q (F0 m (pc + 3) ls (.int r :: rest))) : W p l e R s m args below meth c0 H locs cells slots Q (F0 m pc ls (.ref (ad 2030) :: rest)) :=
  p_gV (As := []) (rest := rest) E.1 hX hP hS hA hM (cwV 0 E.1.2.2.2.2 (lw_V q1051 q780 q781 q129 q782) rfl hz.1 hz.2 (by decide +kernel) hR) (hD.1 _ _ dX_2030) rfl rfl rfl hsz rfl hW hdg hcs kk
theorem cx_X5_95_X5_buying_TB {rm : Room} {σ1 : Sto} {x1 : Int32} {x2 : Int32} {x3 : Int32} {r : Int64} (E : EN p s m args meth c0 RX5 cc nL ret) (hX : KX D G ad A s s.heap) (hD : XD dsc nr nw nu) (hP : PIC D clsA G dsc ad σ H) (hS : va_S A s.heap H locs) (hA : ∀ q, PA dsc ad s.heap.size q → A q) (hM : CtG l D G dsc ad yX5_buying (ws_ yX5_buying cX5_buying 7 (Option.some Jvm.ClassFile.FieldType.long)) rm [.ref (ad 1060), .int x1, .int x2, .int x3] σ (some (.long r)) σ1) (hz : rm.cells = 0 ∧ rm.slots = 0) (hR : rm.frames + 1 ≤ R.frames ∧ 8 + (7 + 11) + rm.locals ≤ R.locals) (hcs : cells ≤ R.cells ∧ slots ≤ R.slots) (hsz : ls.size = nL) (hW : (rest.map fun v => v.category).sum ≤ 8) (hdg : decode cc pc = .ok (.invokevirtual 95, 3)) (kk : ∀ (H1 : Heap) (locs1 : List Loc), PIC D clsA G dsc ad σ1 H1 → va_S A s.heap H1 locs1 → W p l e R s m args below meth c0 H1 locs1 cells slots Q (F0 m (pc + 3) ls (.long r :: rest))) : W p l e R s m args below meth c0 H locs cells slots Q (F0 m pc ls (.int x3 :: .int x2 :: .int x1 :: .ref (ad 1060) :: rest)) :=
  p_gU (As := [.int x1, .int x2, .int x3]) (rest := rest) E.1 hX hP hS hA hM (cw_any (owner := "ShutPasses$Table") (x := ⟨"ShutPasses$Table", "buying", "(III)J"⟩) (y := yX5_buying) (C := "ShutPasses$InMean") (index := 95) (own := RX5) 3 E.1.2.2.2.2 (lw_meth q1187) rfl hz.1 hz.2 (E.1.2.2.2.2 _ q1181) (E.1.2.2.2.2 _ q1183) (va_Decl.of (E.1.2.2.2.2 _ q1182) (E.1.2.2.2.2 _ q1187)) (E.1.2.2.2.2 _ q1185) (E.1.2.2.2.2 _ q1182) (E.1.2.2.2.2 _ q131) (by decide +kernel) hR) (hD.1 _ _ dX_1060) rfl rfl rfl hsz rfl hW hdg hcs kk
/-! X5_next_TB (II)I -/
abbrev rmX5_next_TB : Room := { frames := 45, cells := 0, slots := 0, locals := 1241 }
set_option maxHeartbeats 4000000 in
theorem wkX5_next_TB {x1 : Int32} {x2 : Int32} {r_ : Int32} (E : EN p s m args meth c0 RX5 cX5_next 4 (Option.some Jvm.ClassFile.FieldType.int)) (hX : KX D G ad A s s.heap) (hD : XD dsc nr nw nu) (hA : ∀ q, PA dsc ad s.heap.size q → A q) (hf : xo_X5_next_TB (σ.1 1062) (σ.1 2008) (σ.1 2013) (σ.1 2027) (σ.1 2032) (σ.2.1 1061) (σ.2.2.1 1170) (σ.2.2.1 2037) (σ.2.2.1 2043) (σ.2.2.2.1 1141) (σ.2.2.2.1 1150) nr nw (fun k => σ.1 (6000 + 16 * k + 2)) (fun k => σ.1 (6000 + 16 * k + 5)) (fun k => σ.1 (6000 + 16 * k + 6)) (fun k => σ.1 (8000 + 16 * k + 0)) (fun k => σ.1 (8000 + 16 * k + 1)) (fun k => σ.1 (8000 + 16 * k + 2)) (fun k => σ.2.2.1 (4000 + 16 * k)) x1 x2 = some r_) (hQ : Q = MQ below (va_G1 (some (.int r_)) (fun t => PIC D clsA G dsc ad σ t.heap) A) args s 0 0 A) (hP : PIC D clsA G dsc ad σ H) (hS : va_S A s.heap H locs) (hl : lv_has ls 4 [(0, .ref (ad 1060)), (1, .int x1), (2, .int x2)]) : W p l e rmX5_next_TB s m args below meth c0 H locs 0 0 Q (F0 m 0 ls []) := by
  obtain ⟨⟨hx, hb, hml, hown, hts⟩, hr, hlk⟩ := id E
  unfold xo_X5_next_TB at hf
  refine lv_iload_n hx hb dX5_next_0 rfl (lv_at hl 1 rfl) ?_
  refine lv_aload_n hx hb dX5_next_1 rfl (lv_at hl 0 rfl) ?_
  refine gx_X5_3_1060 E hX hD hP dX5_next_2 ?_
  refine gx_X5_27_1000 E hX hD hP dX5_next_5 ?_
  refine gx_X5_67_2000 (v := (σ.1 2013)) E hX hD hP rfl dX5_next_8 ?_
  refine lv_icmp_eq (tgt := 28) hx hb dX5_next_11 (by decide) (fun c1 => ?_) (fun c1 => ?_)
  · have hf := ifT c1 hf
    refine lv_bipush hx hb dX5_next_28 bp_m2 ?_
    cases hf
    rw [hQ]; exact g_iret hx hb hr hlk hP hS dX5_next_30
  · have hf := ifF c1 hf
    refine lv_aload_n hx hb dX5_next_14 rfl (lv_at hl 0 rfl) ?_
    refine lv_iload_n hx hb dX5_next_15 rfl (lv_at hl 1 rfl) ?_
    refine lv_iload_n hx hb dX5_next_16 rfl (lv_at hl 2 rfl) ?_
    obtain ⟨v2, u3, hf⟩ := bdP hf
    refine cx_X5_81_X5_value_TB E hX hD hP hS hA (kxX5_value_TB l D G hD rfl u3) ⟨rfl, rfl⟩ ⟨Nat.le_of_ble_eq_true rfl, Nat.le_of_ble_eq_true rfl⟩ ⟨Nat.zero_le _, Nat.zero_le _⟩ hl.1 (Nat.le_of_ble_eq_true rfl) dX5_next_17 (fun H locs hP hS => ?_)
    refine lv_aload_n hx hb dX5_next_20 rfl (lv_at hl 0 rfl) ?_
    refine gx_X5_19_1060 (v := (σ.2.1 1061)) E hX hD hP rfl dX5_next_21 ?_
    refine W.lcmp hx hb dX5_next_24 ?_
    refine lv_if_ne (tgt := 31) hx hb dX5_next_25 (by decide) (fun c4 => ?_) (fun c4 => ?_)
    · have hf := ifF (mt (lgc_eq _ _).mpr c4) hf
      refine lv_iconst hx hb dX5_next_31 ic_0 ?_
      refine lv_istore_n (lv' := [(3, .int 0), (0, .ref (ad 1060)), (1, .int x1), (2, .int x2)]) hx hb dX5_next_32 rfl hl (by decide) rfl (fun ls hl => ?_)
      have LP33 : ∀ (st33 : Int32) (ex33 : (Int32) ⊕ (Unit)), loop (xo_X5_next_TB_L33 (σ.1 1062) (σ.1 2008) (σ.1 2013) (σ.1 2027) (σ.2.1 1061) (σ.2.2.1 1170) (σ.2.2.1 2043) (σ.2.2.2.1 1141) (σ.2.2.2.1 1150) nr (fun k => σ.1 (6000 + 16 * k + 2)) (fun k => σ.1 (6000 + 16 * k + 5)) (fun k => σ.1 (6000 + 16 * k + 6)) (fun k => σ.2.2.1 (4000 + 16 * k)) x1 x2) st33 = some ex33 → ∀ (H : Heap) (locs : List Loc), PIC D clsA G dsc ad σ H → va_S A s.heap H locs → ∀ (ls : Array Slot), lv_has ls 4 [(0, .ref (ad 1060)), (1, .int x1), (2, .int x2), (3, .int st33)] → (∀ (y13 : Int32), ex33 = (.inl y13) → ∀ (H : Heap) (locs : List Loc), PIC D clsA G dsc ad σ H → va_S A s.heap H locs → ∀ (ls : Array Slot), lv_has ls 4 [(3, .int y13)] → W p l e rmX5_next_TB s m args below meth c0 H locs 0 0 Q (F0 m 64 ls [])) → (ex33 = (.inr ()) → ∀ (H : Heap) (locs : List Loc), PIC D clsA G dsc ad σ H → va_S A s.heap H locs → ∀ (ls : Array Slot), lv_has ls 4 [(0, .ref (ad 1060)), (1, .int x1), (2, .int x2)] → W p l e rmX5_next_TB s m args below meth c0 H locs 0 0 Q (F0 m 72 ls [])) → W p l e rmX5_next_TB s m args below meth c0 H locs 0 0 Q (F0 m 33 ls []) := by
        refine loop_P (fun st33 ex33 o33 hf ih33 hx33 => ?_)
        obtain ⟨y5, rfl⟩ : ∃ z, z = st33 := ⟨_, rfl⟩
        intro H locs (hP : PIC D clsA G dsc ad σ H) hS ls (hl : lv_has ls 4 [(0, .ref (ad 1060)), (1, .int x1), (2, .int x2), (3, .int y5)]) KE33_0 KE33_1
        dsimp only [xo_X5_next_TB_L33] at hf
        refine lv_iload_n hx hb dX5_next_33 rfl (lv_at hl 3 rfl) ?_
        refine lv_aload_n hx hb dX5_next_34 rfl (lv_at hl 0 rfl) ?_
        refine gx_X5_3_1060 E hX hD hP dX5_next_35 ?_
        refine gx_X5_27_1000 E hX hD hP dX5_next_38 ?_
        refine gx_X5_63_2000 (v := (σ.1 2008)) E hX hD hP rfl dX5_next_41 ?_
        refine lv_icmp_ge (tgt := 72) hx hb dX5_next_44 (by decide) (fun c6 => ?_) (fun c6 => ?_)
        · have hf := ifT c6 hf
          exact KE33_1  (hx33 _ (Option.some.inj hf).symm).symm H locs hP hS ls (lv_sub hl [0, 1, 2] rfl)
        · have hf := ifF c6 hf
          refine lv_aload_n hx hb dX5_next_47 rfl (lv_at hl 0 rfl) ?_
          refine lv_iload_n hx hb dX5_next_48 rfl (lv_at hl 1 rfl) ?_
          refine lv_iload_n hx hb dX5_next_49 rfl (lv_at hl 3 rfl) ?_
          refine lv_iload_n hx hb dX5_next_50 rfl (lv_at hl 2 rfl) ?_
          obtain ⟨v7, u8, hf⟩ := bdP hf
          refine cx_X5_84_X5_going_TB E hX hD hP hS hA (kxX5_going_TB l D G hD rfl rfl rfl rfl rfl rfl rfl rfl rfl rfl rfl rfl rfl u8) ⟨rfl, rfl⟩ ⟨Nat.le_of_ble_eq_true rfl, Nat.le_of_ble_eq_true rfl⟩ ⟨Nat.zero_le _, Nat.zero_le _⟩ hl.1 (Nat.le_of_ble_eq_true rfl) dX5_next_51 (fun H locs hP hS => ?_)
          refine lv_aload_n hx hb dX5_next_54 rfl (lv_at hl 0 rfl) ?_
          refine lv_iload_n hx hb dX5_next_55 rfl (lv_at hl 1 rfl) ?_
          refine lv_iload_n hx hb dX5_next_56 rfl (lv_at hl 2 rfl) ?_
          obtain ⟨v9, u10, hf⟩ := bdP hf
          refine cx_X5_81_X5_value_TB E hX hD hP hS hA (kxX5_value_TB l D G hD rfl u10) ⟨rfl, rfl⟩ ⟨Nat.le_of_ble_eq_true rfl, Nat.le_of_ble_eq_true rfl⟩ ⟨Nat.zero_le _, Nat.zero_le _⟩ hl.1 (Nat.le_of_ble_eq_true rfl) dX5_next_57 (fun H locs hP hS => ?_)
          refine W.lcmp hx hb dX5_next_60 ?_
          refine lv_if_ne (tgt := 66) hx hb dX5_next_61 (by decide) (fun c11 => ?_) (fun c11 => ?_)
          · have hf := ifF (mt (lgc_eq _ _).mpr c11) hf
            obtain ⟨v12, hv12, hf⟩ := bdP hf
            refine lv_iinc (v := v12) (lv' := [(3, .int v12), (0, .ref (ad 1060)), (1, .int x1), (2, .int x2)]) hx hb dX5_next_66 hl (k := 3) rfl (Option.some.inj hv12) (by decide) rfl (fun ls hl => ?_)
            refine lv_goto (tgt := 33) hx hb dX5_next_69 (by decide) ?_
            exact ih33 _ (Option.some.inj hf).symm H locs hP hS ls (lv_sub hl [1, 2, 3, 0] rfl) KE33_0 KE33_1
          · have hf := ifT ((lgc_eq _ _).mp c11) hf
            exact KE33_0 _ (hx33 _ (Option.some.inj hf).symm).symm H locs hP hS ls (lv_sub hl [3] rfl)
      obtain ⟨ex33, hlp33, hf⟩ := bdP hf
      refine LP33 0 ex33 hlp33 H locs hP hS ls (lv_sub hl [1, 2, 3, 0] rfl) ?_ ?_
      · intro y13 hex33 H locs hP hS ls hl
        subst ex33
        dsimp only [sE_l, sE_r] at hf
        refine lv_iload_n hx hb dX5_next_64 rfl (lv_at hl 0 rfl) ?_
        cases hf
        rw [hQ]; exact g_iret hx hb hr hlk hP hS dX5_next_65
      · intro  hex33 H locs hP hS ls hl
        subst ex33
        dsimp only [sE_l, sE_r] at hf
        refine lv_iconst hx hb dX5_next_72 ic_0 ?_
        refine lv_istore_n (lv' := [(3, .int 0), (0, .ref (ad 1060)), (1, .int x1), (2, .int x2)]) hx hb dX5_next_73 rfl hl (by decide) rfl (fun ls hl => ?_)
        have LP74 : ∀ (st74 : Int32) (ex74 : (Int32) ⊕ (Unit)), loop (xo_X5_next_TB_L74 (σ.1 1062) (σ.1 2013) (σ.1 2027) (σ.1 2032) (σ.2.1 1061) (σ.2.2.1 1170) (σ.2.2.1 2037) (σ.2.2.1 2043) (σ.2.2.2.1 1141) (σ.2.2.2.1 1150) nw (fun k => σ.1 (8000 + 16 * k + 0)) (fun k => σ.1 (8000 + 16 * k + 1)) (fun k => σ.1 (8000 + 16 * k + 2)) x1 x2) st74 = some ex74 → ∀ (H : Heap) (locs : List Loc), PIC D clsA G dsc ad σ H → va_S A s.heap H locs → ∀ (ls : Array Slot), lv_has ls 4 [(0, .ref (ad 1060)), (1, .int x1), (2, .int x2), (3, .int st74)] → (∀ (y24 : Int32), ex74 = (.inl y24) → ∀ (H : Heap) (locs : List Loc), PIC D clsA G dsc ad σ H → va_S A s.heap H locs → ∀ (ls : Array Slot), lv_has ls 4 [(3, .int y24)] → W p l e rmX5_next_TB s m args below meth c0 H locs 0 0 Q (F0 m 108 ls [])) → (ex74 = (.inr ()) → ∀ (H : Heap) (locs : List Loc), PIC D clsA G dsc ad σ H → va_S A s.heap H locs → ∀ (ls : Array Slot), lv_has ls 4 [] → W p l e rmX5_next_TB s m args below meth c0 H locs 0 0 Q (F0 m 119 ls [])) → W p l e rmX5_next_TB s m args below meth c0 H locs 0 0 Q (F0 m 74 ls []) := by
          refine loop_P (fun st74 ex74 o74 hf ih74 hx74 => ?_)
          obtain ⟨y14, rfl⟩ : ∃ z, z = st74 := ⟨_, rfl⟩
          intro H locs (hP : PIC D clsA G dsc ad σ H) hS ls (hl : lv_has ls 4 [(0, .ref (ad 1060)), (1, .int x1), (2, .int x2), (3, .int y14)]) KE74_0 KE74_1
          dsimp only [xo_X5_next_TB_L74] at hf
          refine lv_iload_n hx hb dX5_next_74 rfl (lv_at hl 3 rfl) ?_
          refine lv_aload_n hx hb dX5_next_75 rfl (lv_at hl 0 rfl) ?_
          refine gx_X5_3_1060 E hX hD hP dX5_next_76 ?_
          refine gx_X5_27_1000 E hX hD hP dX5_next_79 ?_
          refine gx_X5_92_2000 E hX hD hP dX5_next_82 ?_
          obtain ⟨v15, u16, hf⟩ := bdP hf
          refine cx_X5_37_J2_size_Lw E hX hD hP hS hA (kxJ2_size_Lw l D G hD rfl u16) ⟨rfl, rfl⟩ ⟨Nat.le_of_ble_eq_true rfl, Nat.le_of_ble_eq_true rfl⟩ ⟨Nat.zero_le _, Nat.zero_le _⟩ hl.1 (Nat.le_of_ble_eq_true rfl) dX5_next_85 (fun H locs hP hS => ?_)
          refine lv_icmp_ge (tgt := 119) hx hb dX5_next_88 (by decide) (fun c17 => ?_) (fun c17 => ?_)
          · have hf := ifT c17 hf
            exact KE74_1  (hx74 _ (Option.some.inj hf).symm).symm H locs hP hS ls (lv_sub hl [] rfl)
          · have hf := ifF c17 hf
            refine lv_aload_n hx hb dX5_next_91 rfl (lv_at hl 0 rfl) ?_
            refine lv_iload_n hx hb dX5_next_92 rfl (lv_at hl 1 rfl) ?_
            refine lv_iload_n hx hb dX5_next_93 rfl (lv_at hl 3 rfl) ?_
            refine lv_iload_n hx hb dX5_next_94 rfl (lv_at hl 2 rfl) ?_
            obtain ⟨v18, u19, hf⟩ := bdP hf
            refine cx_X5_95_X5_buying_TB E hX hD hP hS hA (kxX5_buying_TB l D G hD rfl rfl rfl rfl rfl rfl rfl rfl rfl rfl rfl rfl rfl rfl u19) ⟨rfl, rfl⟩ ⟨Nat.le_of_ble_eq_true rfl, Nat.le_of_ble_eq_true rfl⟩ ⟨Nat.zero_le _, Nat.zero_le _⟩ hl.1 (Nat.le_of_ble_eq_true rfl) dX5_next_95 (fun H locs hP hS => ?_)
            refine lv_aload_n hx hb dX5_next_98 rfl (lv_at hl 0 rfl) ?_
            refine lv_iload_n hx hb dX5_next_99 rfl (lv_at hl 1 rfl) ?_
            refine lv_iload_n hx hb dX5_next_100 rfl (lv_at hl 2 rfl) ?_
            obtain ⟨v20, u21, hf⟩ := bdP hf
            refine cx_X5_81_X5_value_TB E hX hD hP hS hA (kxX5_value_TB l D G hD rfl u21) ⟨rfl, rfl⟩ ⟨Nat.le_of_ble_eq_true rfl, Nat.le_of_ble_eq_true rfl⟩ ⟨Nat.zero_le _, Nat.zero_le _⟩ hl.1 (Nat.le_of_ble_eq_true rfl) dX5_next_101 (fun H locs hP hS => ?_)
            refine W.lcmp hx hb dX5_next_104 ?_
            refine lv_if_ne (tgt := 113) hx hb dX5_next_105 (by decide) (fun c22 => ?_) (fun c22 => ?_)
            · have hf := ifF (mt (lgc_eq _ _).mpr c22) hf
              obtain ⟨v23, hv23, hf⟩ := bdP hf
              refine lv_iinc (v := v23) (lv' := [(3, .int v23), (0, .ref (ad 1060)), (1, .int x1), (2, .int x2)]) hx hb dX5_next_113 hl (k := 3) rfl (Option.some.inj hv23) (by decide) rfl (fun ls hl => ?_)
              refine lv_goto (tgt := 74) hx hb dX5_next_116 (by decide) ?_
              exact ih74 _ (Option.some.inj hf).symm H locs hP hS ls (lv_sub hl [1, 2, 3, 0] rfl) KE74_0 KE74_1
            · have hf := ifT ((lgc_eq _ _).mp c22) hf
              exact KE74_0 _ (hx74 _ (Option.some.inj hf).symm).symm H locs hP hS ls (lv_sub hl [3] rfl)
        obtain ⟨ex74, hlp74, hf⟩ := bdP hf
        refine LP74 0 ex74 hlp74 H locs hP hS ls (lv_sub hl [1, 2, 3, 0] rfl) ?_ ?_
        · intro y24 hex74 H locs hP hS ls hl
          subst ex74
          dsimp only [sE_l, sE_r] at hf
          refine lv_bipush hx hb dX5_next_108 bp_100 ?_
          refine lv_iload_n hx hb dX5_next_110 rfl (lv_at hl 0 rfl) ?_
          refine lv_iadd hx hb dX5_next_111 ?_
          cases hf
          rw [hQ]; exact g_iret hx hb hr hlk hP hS dX5_next_112
        · intro  hex74 H locs hP hS ls hl
          subst ex74
          dsimp only [sE_l, sE_r] at hf
          refine lv_bipush hx hb dX5_next_119 bp_m2 ?_
          cases hf
          rw [hQ]; exact g_iret hx hb hr hlk hP hS dX5_next_121
    · have hf := ifT ((lgc_eq _ _).mp c4) hf
      refine lv_bipush hx hb dX5_next_28 bp_m2 ?_
      cases hf
      rw [hQ]; exact g_iret hx hb hr hlk hP hS dX5_next_30
theorem kxX5_next_TB (l : Launch) (D : va_G) (G : Nat → ClassId) {dsc : Nat → Option Dsc} {ad : Nat → Nat} {σ : Sto} {nr nw nu : Nat} (hD : XD dsc nr nw nu) {x1 : Int32} {x2 : Int32} {r_ : Int32} {z_TB_by : Int32} (e_zI1062 : σ.1 1062 = z_TB_by) {z_L_places : Int32} (e_zI2008 : σ.1 2008 = z_L_places) {z_L_to : Int32} (e_zI2013 : σ.1 2013 = z_L_to) {z_Ld_size : Int32} (e_zI2027 : σ.1 2027 = z_Ld_size) {z_Lw_size : Int32} (e_zI2032 : σ.1 2032 = z_Lw_size) {z_TB_none : Int64} (e_zL1061 : σ.2.1 1061 = z_TB_none) {a_UNIT : Nat → Int32} (e_aI1170 : σ.2.2.1 1170 = a_UNIT) {a_Lw_data : Nat → Int32} (e_aI2037 : σ.2.2.1 2037 = a_Lw_data) {a_L_seen : Nat → Int32} (e_aI2043 : σ.2.2.1 2043 = a_L_seen) {a_W_likely : Nat → Int64} (e_aL1141 : σ.2.2.2.1 1141 = a_W_likely) {a_TB_value : Nat → Int64} (e_aL1150 : σ.2.2.2.1 1150 = a_TB_value) {n_r : Nat} (e_nN0 : nr = n_r) {n_w : Nat} (e_nN1 : nw = n_w) {p_road_hours : Nat → Int32} (e_pR2 : (fun k => σ.1 (6000 + 16 * k + 2)) = p_road_hours) {p_road_wait : Nat → Int32} (e_pR5 : (fun k => σ.1 (6000 + 16 * k + 5)) = p_road_wait) {p_road_number : Nat → Int32} (e_pR6 : (fun k => σ.1 (6000 + 16 * k + 6)) = p_road_number) {p_word_place : Nat → Int32} (e_pW0 : (fun k => σ.1 (8000 + 16 * k + 0)) = p_word_place) {p_word_road : Nat → Int32} (e_pW1 : (fun k => σ.1 (8000 + 16 * k + 1)) = p_word_road) {p_word_hours : Nat → Int32} (e_pW2 : (fun k => σ.1 (8000 + 16 * k + 2)) = p_word_hours) {g_grid : Nat → Nat → Int32} (e_gG0 : (fun k => σ.2.2.1 (4000 + 16 * k)) = g_grid) (hf : xo_X5_next_TB z_TB_by z_L_places z_L_to z_Ld_size z_Lw_size z_TB_none a_UNIT a_Lw_data a_L_seen a_W_likely a_TB_value n_r n_w p_road_hours p_road_wait p_road_number p_word_place p_word_road p_word_hours g_grid x1 x2 = some r_) : CtG l D G dsc ad yX5_next (ws_ yX5_next cX5_next 4 (Option.some Jvm.ClassFile.FieldType.int)) rmX5_next_TB [.ref (ad 1060), .int x1, .int x2] σ (some (.int r_)) σ := by
  subst e_zI1062
  subst e_zI2008
  subst e_zI2013
  subst e_zI2027
  subst e_zI2032
  subst e_zL1061
  subst e_aI1170
  subst e_aI2037
  subst e_aI2043
  subst e_aL1141
  subst e_aL1150
  subst e_nN0
  subst e_nN1
  subst e_pR2
  subst e_pR5
  subst e_pR6
  subst e_pW0
  subst e_pW1
  subst e_pW2
  subst e_gG0
  exact p_ctG (by decide +kernel) (Nat.le_of_ble_eq_true rfl) (fun p e s m below meth c0 ls A E hP hX hA hS hl => wkX5_next_TB E hX hD hA hf rfl hP hS hl)
theorem gx_X14_13_1400 (E : EN p s m args meth c0 RX14 cc nL ret) (hX : KX D G ad A s s.heap) (hD : XD dsc nr nw nu) (hP : PIC D clsA G dsc ad σ H) (hdg : decode cc pc = .ok (.getfield 13, 3)) (kk : W p l e R s m args below meth c0 H locs cells slots Q (F0 m (pc + 3) ls (.ref (ad 1060) :: rest))) : W p l e R s m args below meth c0 H locs cells slots Q (F0 m pc ls (.ref (ad 1400) :: rest)) :=
  p_get E.1.1 E.1.2.1 E.1.2.2.2.2 in_X14 E.1.2.2.2.1 hX.1 hP (hD.1 _ _ dX_1400) rfl 1 (by decide) (E.1.2.2.2.2 _ q474) (fun _ h => h) rfl rfl hdg kk
theorem cx_X14_17_X5_next_TB {rm : Room} {σ1 : Sto} {x1 : Int32} {x2 : Int32} {r : Int32} (E : EN p s m args meth c0 RX14 cc nL ret) (hX : KX D G ad A s s.heap) (hD : XD dsc nr nw nu) (hP : PIC D clsA G dsc ad σ H) (hS : va_S A s.heap H locs) (hA : ∀ q, PA dsc ad s.heap.size q → A q) (hM : CtG l D G dsc ad yX5_next (ws_ yX5_next cX5_next 4 (Option.some Jvm.ClassFile.FieldType.int)) rm [.ref (ad 1060), .int x1, .int x2] σ (some (.int r)) σ1) (hz : rm.cells = 0 ∧ rm.slots = 0) (hR : rm.frames + 1 ≤ R.frames ∧ 8 + (4 + 11) + rm.locals ≤ R.locals) (hcs : cells ≤ R.cells ∧ slots ≤ R.slots) (hsz : ls.size = nL) (hW : (rest.map fun v => v.category).sum ≤ 8) (hdg : decode cc pc = .ok (.invokevirtual 17, 3)) (kk : ∀ (H1 : Heap) (locs1 : List Loc), PIC D clsA G dsc ad σ1 H1 → va_S A s.heap H1 locs1 → W p l e R s m args below meth c0 H1 locs1 cells slots Q (F0 m (pc + 3) ls (.int r :: rest))) : W p l e R s m args below meth c0 H locs cells slots Q (F0 m pc ls (.int x2 :: .int x1 :: .ref (ad 1060) :: rest)) :=
  p_gU (As := [.int x1, .int x2]) (rest := rest) E.1 hX hP hS hA hM (cw_any (owner := "ShutPasses$Table") (x := ⟨"ShutPasses$Table", "next", "(II)I"⟩) (y := yX5_next) (C := "ShutPasses$InMean") (index := 17) (own := RX14) 2 E.1.2.2.2.2 (lw_meth q1309) rfl hz.1 hz.2 (E.1.2.2.2.2 _ q1303) (E.1.2.2.2.2 _ q1305) (va_Decl.of (E.1.2.2.2.2 _ q1304) (E.1.2.2.2.2 _ q1309)) (E.1.2.2.2.2 _ q1307) (E.1.2.2.2.2 _ q1304) (E.1.2.2.2.2 _ q131) (by decide +kernel) hR) (hD.1 _ _ dX_1060) rfl rfl rfl hsz rfl hW hdg hcs kk
/-! X14_next_p0 (II)I -/
abbrev rmX14_next_p0 : Room := { frames := 46, cells := 0, slots := 0, locals := 1264 }
set_option maxHeartbeats 4000000 in
theorem wkX14_next_p0 {x1 : Int32} {x2 : Int32} {r_ : Int32} (E : EN p s m args meth c0 RX14 cX14_next 3 (Option.some Jvm.ClassFile.FieldType.int)) (hX : KX D G ad A s s.heap) (hD : XD dsc nr nw nu) (hA : ∀ q, PA dsc ad s.heap.size q → A q) (hf : xo_X14_next_p0 (σ.1 1062) (σ.1 2008) (σ.1 2013) (σ.1 2027) (σ.1 2032) (σ.2.1 1061) (σ.2.2.1 1170) (σ.2.2.1 2037) (σ.2.2.1 2043) (σ.2.2.2.1 1141) (σ.2.2.2.1 1150) nr nw (fun k => σ.1 (6000 + 16 * k + 2)) (fun k => σ.1 (6000 + 16 * k + 5)) (fun k => σ.1 (6000 + 16 * k + 6)) (fun k => σ.1 (8000 + 16 * k + 0)) (fun k => σ.1 (8000 + 16 * k + 1)) (fun k => σ.1 (8000 + 16 * k + 2)) (fun k => σ.2.2.1 (4000 + 16 * k)) x1 x2 = some r_) (hQ : Q = MQ below (va_G1 (some (.int r_)) (fun t => PIC D clsA G dsc ad σ t.heap) A) args s 0 0 A) (hP : PIC D clsA G dsc ad σ H) (hS : va_S A s.heap H locs) (hl : lv_has ls 3 [(0, .ref (ad 1400)), (1, .int x1), (2, .int x2)]) : W p l e rmX14_next_p0 s m args below meth c0 H locs 0 0 Q (F0 m 0 ls []) := by
  obtain ⟨⟨hx, hb, hml, hown, hts⟩, hr, hlk⟩ := id E
  unfold xo_X14_next_p0 at hf
  refine lv_aload_n hx hb dX14_next_0 rfl (lv_at hl 0 rfl) ?_
  refine gx_X14_13_1400 E hX hD hP dX14_next_1 ?_
  refine lv_iload_n hx hb dX14_next_4 rfl (lv_at hl 1 rfl) ?_
  refine lv_iload_n hx hb dX14_next_5 rfl (lv_at hl 2 rfl) ?_
  obtain ⟨v1, u2, hf⟩ := bdP hf
  refine cx_X14_17_X5_next_TB E hX hD hP hS hA (kxX5_next_TB l D G hD rfl rfl rfl rfl rfl rfl rfl rfl rfl rfl rfl rfl rfl rfl rfl rfl rfl rfl rfl rfl u2) ⟨rfl, rfl⟩ ⟨Nat.le_of_ble_eq_true rfl, Nat.le_of_ble_eq_true rfl⟩ ⟨Nat.zero_le _, Nat.zero_le _⟩ hl.1 (Nat.le_of_ble_eq_true rfl) dX14_next_6 (fun H locs hP hS => ?_)
  cases hf
  rw [hQ]; exact g_iret hx hb hr hlk hP hS dX14_next_9
theorem kxX14_next_p0 (l : Launch) (D : va_G) (G : Nat → ClassId) {dsc : Nat → Option Dsc} {ad : Nat → Nat} {σ : Sto} {nr nw nu : Nat} (hD : XD dsc nr nw nu) {x1 : Int32} {x2 : Int32} {r_ : Int32} {z_TB_by : Int32} (e_zI1062 : σ.1 1062 = z_TB_by) {z_L_places : Int32} (e_zI2008 : σ.1 2008 = z_L_places) {z_L_to : Int32} (e_zI2013 : σ.1 2013 = z_L_to) {z_Ld_size : Int32} (e_zI2027 : σ.1 2027 = z_Ld_size) {z_Lw_size : Int32} (e_zI2032 : σ.1 2032 = z_Lw_size) {z_TB_none : Int64} (e_zL1061 : σ.2.1 1061 = z_TB_none) {a_UNIT : Nat → Int32} (e_aI1170 : σ.2.2.1 1170 = a_UNIT) {a_Lw_data : Nat → Int32} (e_aI2037 : σ.2.2.1 2037 = a_Lw_data) {a_L_seen : Nat → Int32} (e_aI2043 : σ.2.2.1 2043 = a_L_seen) {a_W_likely : Nat → Int64} (e_aL1141 : σ.2.2.2.1 1141 = a_W_likely) {a_TB_value : Nat → Int64} (e_aL1150 : σ.2.2.2.1 1150 = a_TB_value) {n_r : Nat} (e_nN0 : nr = n_r) {n_w : Nat} (e_nN1 : nw = n_w) {p_road_hours : Nat → Int32} (e_pR2 : (fun k => σ.1 (6000 + 16 * k + 2)) = p_road_hours) {p_road_wait : Nat → Int32} (e_pR5 : (fun k => σ.1 (6000 + 16 * k + 5)) = p_road_wait) {p_road_number : Nat → Int32} (e_pR6 : (fun k => σ.1 (6000 + 16 * k + 6)) = p_road_number) {p_word_place : Nat → Int32} (e_pW0 : (fun k => σ.1 (8000 + 16 * k + 0)) = p_word_place) {p_word_road : Nat → Int32} (e_pW1 : (fun k => σ.1 (8000 + 16 * k + 1)) = p_word_road) {p_word_hours : Nat → Int32} (e_pW2 : (fun k => σ.1 (8000 + 16 * k + 2)) = p_word_hours) {g_grid : Nat → Nat → Int32} (e_gG0 : (fun k => σ.2.2.1 (4000 + 16 * k)) = g_grid) (hf : xo_X14_next_p0 z_TB_by z_L_places z_L_to z_Ld_size z_Lw_size z_TB_none a_UNIT a_Lw_data a_L_seen a_W_likely a_TB_value n_r n_w p_road_hours p_road_wait p_road_number p_word_place p_word_road p_word_hours g_grid x1 x2 = some r_) : CtG l D G dsc ad yX14_next (ws_ yX14_next cX14_next 3 (Option.some Jvm.ClassFile.FieldType.int)) rmX14_next_p0 [.ref (ad 1400), .int x1, .int x2] σ (some (.int r_)) σ := by
  subst e_zI1062
  subst e_zI2008
  subst e_zI2013
  subst e_zI2027
  subst e_zI2032
  subst e_zL1061
  subst e_aI1170
  subst e_aI2037
  subst e_aI2043
  subst e_aL1141
  subst e_aL1150
  subst e_nN0
  subst e_nN1
  subst e_pR2
  subst e_pR5
  subst e_pR6
  subst e_pW0
  subst e_pW1
  subst e_pW2
  subst e_gG0
  exact p_ctG (by decide +kernel) (Nat.le_of_ble_eq_true rfl) (fun p e s m below meth c0 ls A E hP hX hA hS hl => wkX14_next_p0 E hX hD hA hf rfl hP hS hl)
theorem gx_X9_3_1400 (E : EN p s m args meth c0 RX9 cc nL ret) (hX : KX D G ad A s s.heap) (hD : XD dsc nr nw nu) (hP : PIC D clsA G dsc ad σ H) (hdg : decode cc pc = .ok (.getfield 3, 3)) (kk : W p l e R s m args below meth c0 H locs cells slots Q (F0 m (pc + 3) ls (.ref (ad 1000) :: rest))) : W p l e R s m args below meth c0 H locs cells slots Q (F0 m pc ls (.ref (ad 1400) :: rest)) :=
  p_get E.1.1 E.1.2.1 E.1.2.2.2.2 in_X14 E.1.2.2.2.1 hX.1 hP (hD.1 _ _ dX_1400) rfl 0 (by decide) (E.1.2.2.2.2 _ q435) (fun _ h => h) rfl rfl hdg kk
theorem gx_X9_15_1000 (E : EN p s m args meth c0 RX9 cc nL ret) (hX : KX D G ad A s s.heap) (hD : XD dsc nr nw nu) (hP : PIC D clsA G dsc ad σ H) (hdg : decode cc pc = .ok (.getfield 15, 3)) (kk : W p l e R s m args below meth c0 H locs cells slots Q (F0 m (pc + 3) ls (.ref (ad 2000) :: rest))) : W p l e R s m args below meth c0 H locs cells slots Q (F0 m pc ls (.ref (ad 1000) :: rest)) :=
  p_getN E.1.1 E.1.2.1 E.1.2.2.2.2 in_X1 E.1.2.2.2.1 hX.1 hP (hD.1 _ _ dX_1000) rfl 5 (by decide) (hX.2.1.1 _ q511 rfl) (fun _ h => h) rfl rfl hdg kk
theorem gx_X9_19_2000 {v : Int32} (E : EN p s m args meth c0 RX9 cc nL ret) (hX : KX D G ad A s s.heap) (hD : XD dsc nr nw nu) (hP : PIC D clsA G dsc ad σ H) (hv : σ.1 2012 = v) (hdg : decode cc pc = .ok (.getfield 19, 3)) (kk : W p l e R s m args below meth c0 H locs cells slots Q (F0 m (pc + 3) ls (.int v :: rest))) : W p l e R s m args below meth c0 H locs cells slots Q (F0 m pc ls (.ref (ad 2000) :: rest)) :=
  p_getN E.1.1 E.1.2.1 E.1.2.2.2.2 in_X3 E.1.2.2.2.1 hX.1 hP (hD.1 _ _ dX_2000) rfl 12 (by decide) (hX.2.1.1 _ q276 rfl) (fun _ h => h) rfl (congrArg Value.int hv) hdg kk
theorem cx_X9_25_X1_seeing {rm : Room} {σ1 : Sto} {x1 : Int32} {x2 : Int32} {x3 : Int32} {r : Int32} (E : EN p s m args meth c0 RX9 cc nL ret) (hX : KX D G ad A s s.heap) (hD : XD dsc nr nw nu) (hP : PIC D clsA G dsc ad σ H) (hS : va_S A s.heap H locs) (hA : ∀ q, PA dsc ad s.heap.size q → A q) (hM : CtG l D G dsc ad yX1_seeing (ws_ yX1_seeing cX1_seeing 6 (Option.some Jvm.ClassFile.FieldType.int)) rm [.ref (ad 1000), .int x1, .int x2, .int x3] σ (some (.int r)) σ1) (hz : rm.cells = 0 ∧ rm.slots = 0) (hR : rm.frames + 1 ≤ R.frames ∧ 8 + (6 + 11) + rm.locals ≤ R.locals) (hcs : cells ≤ R.cells ∧ slots ≤ R.slots) (hsz : ls.size = nL) (hW : (rest.map fun v => v.category).sum ≤ 8) (hdg : decode cc pc = .ok (.invokevirtual 25, 3)) (kk : ∀ (H1 : Heap) (locs1 : List Loc), PIC D clsA G dsc ad σ1 H1 → va_S A s.heap H1 locs1 → W p l e R s m args below meth c0 H1 locs1 cells slots Q (F0 m (pc + 3) ls (.int r :: rest))) : W p l e R s m args below meth c0 H locs cells slots Q (F0 m pc ls (.int x3 :: .int x2 :: .int x1 :: .ref (ad 1000) :: rest)) :=
  p_gVN (As := [.int x1, .int x2, .int x3]) (rest := rest) E.1 hX hP hS hA hM ⟨va_cnB 3 E.1.2.2.2.2 (lw_meth q1287) rfl hz.1 hz.2 (hX.2.1.1 _ q1284 rfl) (E.1.2.2.2.2 _ q124) (by decide +kernel) hR, (E.1.2.2.2.2 _ q1286), (E.1.2.2.2.2 _ qs29)⟩ (hD.1 _ _ dX_1000) rfl rfl rfl hsz rfl hW hdg hcs kk
theorem gx_X9_29_2000 {v : Int32} (E : EN p s m args meth c0 RX9 cc nL ret) (hX : KX D G ad A s s.heap) (hD : XD dsc nr nw nu) (hP : PIC D clsA G dsc ad σ H) (hv : σ.1 2013 = v) (hdg : decode cc pc = .ok (.getfield 29, 3)) (kk : W p l e R s m args below meth c0 H locs cells slots Q (F0 m (pc + 3) ls (.int v :: rest))) : W p l e R s m args below meth c0 H locs cells slots Q (F0 m pc ls (.ref (ad 2000) :: rest)) :=
  p_getN E.1.1 E.1.2.1 E.1.2.2.2.2 in_X3 E.1.2.2.2.1 hX.1 hP (hD.1 _ _ dX_2000) rfl 13 (by decide) (hX.2.1.1 _ q282 rfl) (fun _ h => h) rfl (congrArg Value.int hv) hdg kk
theorem cx_X9_32_X14_next_p0 {rm : Room} {σ1 : Sto} {x1 : Int32} {x2 : Int32} {r : Int32} (E : EN p s m args meth c0 RX9 cc nL ret) (hX : KX D G ad A s s.heap) (hD : XD dsc nr nw nu) (hP : PIC D clsA G dsc ad σ H) (hS : va_S A s.heap H locs) (hA : ∀ q, PA dsc ad s.heap.size q → A q) (hM : CtG l D G dsc ad yX14_next (ws_ yX14_next cX14_next 3 (Option.some Jvm.ClassFile.FieldType.int)) rm [.ref (ad 1400), .int x1, .int x2] σ (some (.int r)) σ1) (hz : rm.cells = 0 ∧ rm.slots = 0) (hR : rm.frames + 1 ≤ R.frames ∧ 8 + (3 + 11) + rm.locals ≤ R.locals) (hcs : cells ≤ R.cells ∧ slots ≤ R.slots) (hsz : ls.size = nL) (hW : (rest.map fun v => v.category).sum ≤ 8) (hdg : decode cc pc = .ok (.invokevirtual 32, 3)) (kk : ∀ (H1 : Heap) (locs1 : List Loc), PIC D clsA G dsc ad σ1 H1 → va_S A s.heap H1 locs1 → W p l e R s m args below meth c0 H1 locs1 cells slots Q (F0 m (pc + 3) ls (.int r :: rest))) : W p l e R s m args below meth c0 H locs cells slots Q (F0 m pc ls (.int x2 :: .int x1 :: .ref (ad 1400) :: rest)) :=
  p_gU (As := [.int x1, .int x2]) (rest := rest) E.1 hX hP hS hA hM (cw_any (owner := "ShutPasses$Plan") (x := ⟨"ShutPasses$Plan", "next", "(II)I"⟩) (y := yX14_next) (C := "ShutPasses$ByTable") (index := 32) (own := RX9) 2 E.1.2.2.2.2 (lw_meth q1302) rfl hz.1 hz.2 (E.1.2.2.2.2 _ q1288) (E.1.2.2.2.2 _ q1290) (va_Decl.abs (hX.2.1.1 _ q1289 rfl)) (E.1.2.2.2.2 _ q1300) (E.1.2.2.2.2 _ q1301) (E.1.2.2.2.2 _ q140) (by decide +kernel) hR) (hD.1 _ _ dX_1400) rfl rfl rfl hsz rfl hW hdg hcs kk
theorem cx_X9_57_X3_cost {rm : Room} {σ1 : Sto} {x1 : Int32} {x2 : Int32} {x3 : Int32} {r : Int32} (E : EN p s m args meth c0 RX9 cc nL ret) (hX : KX D G ad A s s.heap) (hD : XD dsc nr nw nu) (hP : PIC D clsA G dsc ad σ H) (hS : va_S A s.heap H locs) (hA : ∀ q, PA dsc ad s.heap.size q → A q) (hM : CtG l D G dsc ad yX3_cost (ws_ yX3_cost cX3_cost 5 (Option.some Jvm.ClassFile.FieldType.int)) rm [.ref (ad 2000), .int x1, .int x2, .int x3] σ (some (.int r)) σ1) (hz : rm.cells = 0 ∧ rm.slots = 0) (hR : rm.frames + 1 ≤ R.frames ∧ 8 + (5 + 11) + rm.locals ≤ R.locals) (hcs : cells ≤ R.cells ∧ slots ≤ R.slots) (hsz : ls.size = nL) (hW : (rest.map fun v => v.category).sum ≤ 8) (hdg : decode cc pc = .ok (.invokevirtual 57, 3)) (kk : ∀ (H1 : Heap) (locs1 : List Loc), PIC D clsA G dsc ad σ1 H1 → va_S A s.heap H1 locs1 → W p l e R s m args below meth c0 H1 locs1 cells slots Q (F0 m (pc + 3) ls (.int r :: rest))) : W p l e R s m args below meth c0 H locs cells slots Q (F0 m pc ls (.int x3 :: .int x2 :: .int x1 :: .ref (ad 2000) :: rest)) :=
  p_gV (As := [.int x1, .int x2, .int x3]) (rest := rest) E.1 hX hP hS hA hM (cwV 3 E.1.2.2.2.2 (lw_V q1316 q1105 q1106 q126 q1107) rfl hz.1 hz.2 (by decide +kernel) hR) (hD.1 _ _ dX_2000) rfl rfl rfl hsz rfl hW hdg hcs kk
theorem gx_X9_36_2000 (E : EN p s m args meth c0 RX9 cc nL ret) (hX : KX D G ad A s s.heap) (hD : XD dsc nr nw nu) (hP : PIC D clsA G dsc ad σ H) (hdg : decode cc pc = .ok (.getfield 36, 3)) (kk : W p l e R s m args below meth c0 H locs cells slots Q (F0 m (pc + 3) ls (.ref (ad 2030) :: rest))) : W p l e R s m args below meth c0 H locs cells slots Q (F0 m pc ls (.ref (ad 2000) :: rest)) :=
  p_getN E.1.1 E.1.2.1 E.1.2.2.2.2 in_X3 E.1.2.2.2.1 hX.1 hP (hD.1 _ _ dX_2000) rfl 2 (by decide) (hX.2.1.1 _ q247 rfl) (fun _ h => h) rfl rfl hdg kk
theorem cx_X9_40_J2_get_Lw {rm : Room} {σ1 : Sto} {x1 : Int32} {r : Int32} (E : EN p s m args meth c0 RX9 cc nL ret) (hX : KX D G ad A s s.heap) (hD : XD dsc nr nw nu) (hP : PIC D clsA G dsc ad σ H) (hS : va_S A s.heap H locs) (hA : ∀ q, PA dsc ad s.heap.size q → A q) (hM : CtG l D G dsc ad yJ2_get (ws_ yJ2_get cJ2_get 2 (Option.some (Jvm.ClassFile.FieldType.object "java/lang/Object"))) rm [.ref (ad 2030), .int x1] σ (some (va_rf (drf ad 8000 r))) σ1) (hz : rm.cells = 0 ∧ rm.slots = 0) (hR : rm.frames + 1 ≤ R.frames ∧ 8 + (2 + 11) + rm.locals ≤ R.locals) (hcs : cells ≤ R.cells ∧ slots ≤ R.slots) (hsz : ls.size = nL) (hW : (rest.map fun v => v.category).sum ≤ 8) (hdg : decode cc pc = .ok (.invokevirtual 40, 3)) (kk : ∀ (H1 : Heap) (locs1 : List Loc), PIC D clsA G dsc ad σ1 H1 → va_S A s.heap H1 locs1 → W p l e R s m args below meth c0 H1 locs1 cells slots Q (F0 m (pc + 3) ls (va_rf (drf ad 8000 r) :: rest))) : W p l e R s m args below meth c0 H locs cells slots Q (F0 m pc ls (.int x1 :: .ref (ad 2030) :: rest)) :=
  p_gV (As := [.int x1]) (rest := rest) E.1 hX hP hS hA hM (cwV 1 E.1.2.2.2.2 (lw_V q1313 q1011 q1012 q129 q1013) rfl hz.1 hz.2 (by decide +kernel) hR) (hD.1 _ _ dX_2030) rfl rfl rfl hsz rfl hW hdg hcs kk
theorem gp_X9_48_W {v h : Int32} {f : Nat → Int32} (E : EN p s m args meth c0 RX9 cc nL ret) (hX : KX D G ad A s s.heap) (hD : XD dsc nr nw nu) (hP : PIC D clsA G dsc ad σ H) (hf : (fun k => σ.1 (8000 + 16 * k + 2)) = f) (hv : rdI f nw v = some h) (hdg : decode cc pc = .ok (.getfield 48, 3)) (kk : W p l e R s m args below meth c0 H locs cells slots Q (F0 m (pc + 3) ls (.int h :: rest))) : W p l e R s m args below meth c0 H locs cells slots Q (F0 m pc ls (va_rf (drf ad 8000 v) :: rest)) := by
  subst hf
  obtain ⟨h0, h1, h2⟩ := pool_ok hv
  exact p_nn h0 (p_getN E.1.1 E.1.2.1 E.1.2.2.2.2 in_X19 E.1.2.2.2.1 hX.1 hP (hD.2.2.1 _ h1) rfl 2 (by decide) (hX.2.1.1 _ q965 rfl) (fun _ h => h) rfl (congrArg Value.int h2) hdg kk)
theorem gp_X9_51_W {v h : Int32} {f : Nat → Int32} (E : EN p s m args meth c0 RX9 cc nL ret) (hX : KX D G ad A s s.heap) (hD : XD dsc nr nw nu) (hP : PIC D clsA G dsc ad σ H) (hf : (fun k => σ.1 (8000 + 16 * k + 1)) = f) (hv : rdI f nw v = some h) (hdg : decode cc pc = .ok (.getfield 51, 3)) (kk : W p l e R s m args below meth c0 H locs cells slots Q (F0 m (pc + 3) ls (.int h :: rest))) : W p l e R s m args below meth c0 H locs cells slots Q (F0 m pc ls (va_rf (drf ad 8000 v) :: rest)) := by
  subst hf
  obtain ⟨h0, h1, h2⟩ := pool_ok hv
  exact p_nn h0 (p_getN E.1.1 E.1.2.1 E.1.2.2.2.2 in_X19 E.1.2.2.2.1 hX.1 hP (hD.2.2.1 _ h1) rfl 1 (by decide) (hX.2.1.1 _ q961 rfl) (fun _ h => h) rfl (congrArg Value.int h2) hdg kk)
theorem cx_X9_54_X1_with {rm : Room} {σ1 : Sto} {x0 : Int32} {x1 : Int32} {x2 : Int32} {r : Int32} (E : EN p s m args meth c0 RX9 cc nL ret) (hX : KX D G ad A s s.heap) (hD : XD dsc nr nw nu) (hP : PIC D clsA G dsc ad σ H) (hS : va_S A s.heap H locs) (hA : ∀ q, PA dsc ad s.heap.size q → A q) (hM : CtG l D G dsc ad yX1_with (ws_ yX1_with cX1_with 3 (Option.some Jvm.ClassFile.FieldType.int)) rm [.int x0, .int x1, .int x2] σ (some (.int r)) σ1) (hz : rm.cells = 0 ∧ rm.slots = 0) (hR : rm.frames + 1 ≤ R.frames ∧ 8 + (3 + 11) + rm.locals ≤ R.locals) (hcs : cells ≤ R.cells ∧ slots ≤ R.slots) (hsz : ls.size = nL) (hW : (rest.map fun v => v.category).sum ≤ 8) (hdg : decode cc pc = .ok (.invokestatic 54, 3)) (kk : ∀ (H1 : Heap) (locs1 : List Loc), PIC D clsA G dsc ad σ1 H1 → va_S A s.heap H1 locs1 → W p l e R s m args below meth c0 H1 locs1 cells slots Q (F0 m (pc + 3) ls (.int r :: rest))) : W p l e R s m args below meth c0 H locs cells slots Q (F0 m pc ls (.int x2 :: .int x1 :: .int x0 :: rest)) :=
  p_gSN (As := [.int x0, .int x1, .int x2]) (rest := rest) E.1 hX hP hS hA hM ⟨va_cnB 3 E.1.2.2.2.2 (lw_meth q1139) rfl hz.1 hz.2 (hX.2.1.1 _ q1315 rfl) (E.1.2.2.2.2 _ q124) (by decide +kernel) hR, (E.1.2.2.2.2 _ q1138), trivial⟩ rfl hsz rfl hW hdg hcs kk
/-! X9_hours_p0 (I)I -/
abbrev rmX9_hours_p0 : Room := { frames := 47, cells := 0, slots := 0, locals := 1286 }
set_option maxHeartbeats 4000000 in
theorem wkX9_hours_p0 {x1 : Int32} {r_ : Int32} (E : EN p s m args meth c0 RX9 cX9_hours 9 (Option.some Jvm.ClassFile.FieldType.int)) (hX : KX D G ad A s s.heap) (hD : XD dsc nr nw nu) (hA : ∀ q, PA dsc ad s.heap.size q → A q) (hf : xo_X9_hours_p0 (σ.1 1062) (σ.1 2008) (σ.1 2012) (σ.1 2013) (σ.1 2027) (σ.1 2032) (σ.2.1 1061) (σ.2.2.1 1170) (σ.2.2.1 2037) (σ.2.2.1 2043) (σ.2.2.2.1 1141) (σ.2.2.2.1 1150) nr nw (fun k => σ.1 (6000 + 16 * k + 2)) (fun k => σ.1 (6000 + 16 * k + 5)) (fun k => σ.1 (6000 + 16 * k + 6)) (fun k => σ.1 (8000 + 16 * k + 0)) (fun k => σ.1 (8000 + 16 * k + 1)) (fun k => σ.1 (8000 + 16 * k + 2)) (fun k => σ.2.2.1 (4000 + 16 * k)) x1 = some r_) (hQ : Q = MQ below (va_G1 (some (.int r_)) (fun t => PIC D clsA G dsc ad σ t.heap) A) args s 0 0 A) (hP : PIC D clsA G dsc ad σ H) (hS : va_S A s.heap H locs) (hl : lv_has ls 9 [(0, .ref (ad 1400)), (1, .int x1)]) : W p l e rmX9_hours_p0 s m args below meth c0 H locs 0 0 Q (F0 m 0 ls []) := by
  obtain ⟨⟨hx, hb, hml, hown, hts⟩, hr, hlk⟩ := id E
  unfold xo_X9_hours_p0 at hf
  refine lv_aload_n hx hb dX9_hours_0 rfl (lv_at hl 0 rfl) ?_
  refine gx_X9_3_1400 E hX hD hP dX9_hours_1 ?_
  refine gx_X9_15_1000 E hX hD hP dX9_hours_4 ?_
  refine gx_X9_19_2000 (v := (σ.1 2012)) E hX hD hP rfl dX9_hours_7 ?_
  refine lv_istore_n (lv' := [(2, .int (σ.1 2012)), (0, .ref (ad 1400)), (1, .int x1)]) hx hb dX9_hours_10 rfl hl (by decide) rfl (fun ls hl => ?_)
  refine lv_aload_n hx hb dX9_hours_11 rfl (lv_at hl 1 rfl) ?_
  refine gx_X9_3_1400 E hX hD hP dX9_hours_12 ?_
  refine lv_iload_n hx hb dX9_hours_15 rfl (lv_at hl 0 rfl) ?_
  refine lv_iconst hx hb dX9_hours_16 ic_0 ?_
  refine lv_iload_n hx hb dX9_hours_17 rfl (lv_at hl 2 rfl) ?_
  obtain ⟨v1, u2, hf⟩ := bdP hf
  refine cx_X9_25_X1_seeing E hX hD hP hS hA (kxX1_seeing l D G hD rfl rfl rfl u2) ⟨rfl, rfl⟩ ⟨Nat.le_of_ble_eq_true rfl, Nat.le_of_ble_eq_true rfl⟩ ⟨Nat.zero_le _, Nat.zero_le _⟩ hl.1 (Nat.le_of_ble_eq_true rfl) dX9_hours_18 (fun H locs hP hS => ?_)
  refine lv_istore_n (lv' := [(3, .int v1), (2, .int (σ.1 2012)), (0, .ref (ad 1400)), (1, .int x1)]) hx hb dX9_hours_21 rfl hl (by decide) rfl (fun ls hl => ?_)
  refine lv_iconst hx hb dX9_hours_22 ic_0 ?_
  refine lv_istore (lv' := [(4, .int 0), (3, .int v1), (2, .int (σ.1 2012)), (0, .ref (ad 1400)), (1, .int x1)]) hx hb dX9_hours_23 hl (by decide) rfl (fun ls hl => ?_)
  refine lv_iconst hx hb dX9_hours_25 ic_0 ?_
  refine lv_istore (lv' := [(5, .int 0), (4, .int 0), (3, .int v1), (2, .int (σ.1 2012)), (0, .ref (ad 1400)), (1, .int x1)]) hx hb dX9_hours_26 hl (by decide) rfl (fun ls hl => ?_)
  have LP28 : ∀ (st28 : Int32 × Int32 × Int32 × Int32) (ex28 : (Unit) ⊕ (Int32)), loop (xo_X9_hours_p0_L28 (σ.1 1062) (σ.1 2008) (σ.1 2013) (σ.1 2027) (σ.1 2032) (σ.2.1 1061) (σ.2.2.1 1170) (σ.2.2.1 2037) (σ.2.2.1 2043) (σ.2.2.2.1 1141) (σ.2.2.2.1 1150) nr nw (fun k => σ.1 (6000 + 16 * k + 2)) (fun k => σ.1 (6000 + 16 * k + 5)) (fun k => σ.1 (6000 + 16 * k + 6)) (fun k => σ.1 (8000 + 16 * k + 0)) (fun k => σ.1 (8000 + 16 * k + 1)) (fun k => σ.1 (8000 + 16 * k + 2)) (fun k => σ.2.2.1 (4000 + 16 * k)) x1) st28 = some ex28 → ∀ (H : Heap) (locs : List Loc), PIC D clsA G dsc ad σ H → va_S A s.heap H locs → ∀ (ls : Array Slot), lv_has ls 9 [(0, .ref (ad 1400)), (1, .int x1), (2, .int (st28.1)), (3, .int (st28.2.1)), (4, .int (st28.2.2.1)), (5, .int (st28.2.2.2))] → (ex28 = (.inl (())) → ∀ (H : Heap) (locs : List Loc), PIC D clsA G dsc ad σ H → va_S A s.heap H locs → ∀ (ls : Array Slot), lv_has ls 9 [] → W p l e rmX9_hours_p0 s m args below meth c0 H locs 0 0 Q (F0 m 64 ls [])) → (∀ (y32 : Int32), ex28 = (.inr y32) → ∀ (H : Heap) (locs : List Loc), PIC D clsA G dsc ad σ H → va_S A s.heap H locs → ∀ (ls : Array Slot), lv_has ls 9 [(4, .int y32)] → W p l e rmX9_hours_p0 s m args below meth c0 H locs 0 0 Q (F0 m 186 ls [])) → W p l e rmX9_hours_p0 s m args below meth c0 H locs 0 0 Q (F0 m 28 ls []) := by
    refine loop_P (fun st28 ex28 o28 hf ih28 hx28 => ?_)
    obtain ⟨y3, y4, y5, y6⟩ := st28
    intro H locs (hP : PIC D clsA G dsc ad σ H) hS ls (hl : lv_has ls 9 [(0, .ref (ad 1400)), (1, .int x1), (2, .int y3), (3, .int y4), (4, .int y5), (5, .int y6)]) KE28_0 KE28_1
    dsimp only [xo_X9_hours_p0_L28] at hf
    refine lv_iload_n hx hb dX9_hours_28 rfl (lv_at hl 2 rfl) ?_
    refine lv_aload_n hx hb dX9_hours_29 rfl (lv_at hl 0 rfl) ?_
    refine gx_X9_3_1400 E hX hD hP dX9_hours_30 ?_
    refine gx_X9_15_1000 E hX hD hP dX9_hours_33 ?_
    refine gx_X9_29_2000 (v := (σ.1 2013)) E hX hD hP rfl dX9_hours_36 ?_
    refine lv_icmp_eq (tgt := 186) hx hb dX9_hours_39 (by decide) (fun c7 => ?_) (fun c7 => ?_)
    · have hf := ifT c7 hf
      exact KE28_1 _ (hx28 _ (Option.some.inj hf).symm).symm H locs hP hS ls (lv_sub hl [4] rfl)
    · have hf := ifF c7 hf
      refine lv_aload_n hx hb dX9_hours_42 rfl (lv_at hl 0 rfl) ?_
      refine lv_iload_n hx hb dX9_hours_43 rfl (lv_at hl 2 rfl) ?_
      refine lv_iload_n hx hb dX9_hours_44 rfl (lv_at hl 3 rfl) ?_
      obtain ⟨v8, u9, hf⟩ := bdP hf
      refine cx_X9_32_X14_next_p0 E hX hD hP hS hA (kxX14_next_p0 l D G hD rfl rfl rfl rfl rfl rfl rfl rfl rfl rfl rfl rfl rfl rfl rfl rfl rfl rfl rfl rfl u9) ⟨rfl, rfl⟩ ⟨Nat.le_of_ble_eq_true rfl, Nat.le_of_ble_eq_true rfl⟩ ⟨Nat.zero_le _, Nat.zero_le _⟩ hl.1 (Nat.le_of_ble_eq_true rfl) dX9_hours_45 (fun H locs hP hS => ?_)
      refine lv_istore (lv' := [(6, .int v8), (0, .ref (ad 1400)), (1, .int x1), (2, .int y3), (3, .int y4), (4, .int y5), (5, .int y6)]) hx hb dX9_hours_48 hl (by decide) rfl (fun ls hl => ?_)
      refine lv_iload hx hb dX9_hours_50 (lv_at hl 0 rfl) ?_
      refine lv_bipush hx hb dX9_hours_52 bp_m2 ?_
      refine lv_icmp_eq (tgt := 64) hx hb dX9_hours_54 (by decide) (fun c10 => ?_) (fun c10 => ?_)
      · have hf := ifT c10 hf
        exact KE28_0  (hx28 _ (Option.some.inj hf).symm).symm H locs hP hS ls (lv_sub hl [] rfl)
      · have hf := ifF c10 hf
        refine lv_iload hx hb dX9_hours_57 (lv_at hl 6 rfl) ?_
        refine lv_bipush hx hb dX9_hours_59 bp_10 ?_
        refine lv_icmp_le (tgt := 67) hx hb dX9_hours_61 (by decide) (fun c11 => ?_) (fun c11 => ?_)
        · have hf := ifT c11 hf
          refine lv_iload_n hx hb dX9_hours_67 rfl (lv_at hl 4 rfl) ?_
          refine lv_istore (lv' := [(7, .int y4), (6, .int v8), (0, .ref (ad 1400)), (1, .int x1), (2, .int y3), (3, .int y4), (4, .int y5), (5, .int y6)]) hx hb dX9_hours_68 hl (by decide) rfl (fun ls hl => ?_)
          refine lv_iload hx hb dX9_hours_70 (lv_at hl 1 rfl) ?_
          refine lv_bipush hx hb dX9_hours_72 bp_100 ?_
          have J167 : ∀ (y12 : Int32) (y13 : Int32) (y14 : Int32), xo_X9_hours_p0_J167 y4 y6 y12 y13 y14 = some o28 → ∀ (H : Heap) (locs : List Loc), PIC D clsA G dsc ad σ H → va_S A s.heap H locs → ∀ (ls : Array Slot), lv_has ls 9 [(0, .ref (ad 1400)), (1, .int x1), (2, .int y12), (3, .int y13), (4, .int y14), (5, .int y6), (7, .int y4)] → W p l e rmX9_hours_p0 s m args below meth c0 H locs 0 0 Q (F0 m 167 ls []) := by
            intro y12 y13 y14 hf H locs hP hS ls hl
            unfold xo_X9_hours_p0_J167 at hf
            refine lv_iload_n hx hb dX9_hours_167 rfl (lv_at hl 3 rfl) ?_
            refine lv_iload hx hb dX9_hours_168 (lv_at hl 6 rfl) ?_
            have J181 : ∀ (k15 : Int32), xo_X9_hours_p0_J181 y12 y13 y14 k15 = some o28 → ∀ (H : Heap) (locs : List Loc), PIC D clsA G dsc ad σ H → va_S A s.heap H locs → ∀ (ls : Array Slot), lv_has ls 9 [(0, .ref (ad 1400)), (1, .int x1), (2, .int y12), (3, .int y13), (4, .int y14)] → W p l e rmX9_hours_p0 s m args below meth c0 H locs 0 0 Q (F0 m 181 ls [.int k15]) := by
              intro k15 hf H locs hP hS ls hl
              unfold xo_X9_hours_p0_J181 at hf
              refine lv_istore (lv' := [(5, .int k15), (0, .ref (ad 1400)), (1, .int x1), (2, .int y12), (3, .int y13), (4, .int y14)]) hx hb dX9_hours_181 hl (by decide) rfl (fun ls hl => ?_)
              refine lv_goto (tgt := 28) hx hb dX9_hours_183 (by decide) ?_
              exact ih28 _ (Option.some.inj hf).symm H locs hP hS ls (lv_sub hl [1, 2, 3, 4, 5, 0] rfl) KE28_0 KE28_1
            refine lv_icmp_ne (tgt := 180) hx hb dX9_hours_170 (by decide) (fun c16 => ?_) (fun c16 => ?_)
            · have hf := ifF c16 hf
              refine lv_iconst hx hb dX9_hours_180 ic_0 ?_
              exact J181 0 hf H locs hP hS ls (lv_sub hl [0, 1, 2, 3, 4] rfl)
            · have hf := ifT c16 hf
              refine lv_iload hx hb dX9_hours_173 (lv_at hl 5 rfl) ?_
              refine lv_iconst hx hb dX9_hours_175 ic_1 ?_
              refine lv_iadd hx hb dX9_hours_176 ?_
              refine lv_goto (tgt := 181) hx hb dX9_hours_177 (by decide) ?_
              exact J181 (y6 + 1) hf H locs hP hS ls (lv_sub hl [0, 1, 2, 3, 4] rfl)
          refine lv_icmp_lt (tgt := 134) hx hb dX9_hours_74 (by decide) (fun c17 => ?_) (fun c17 => ?_)
          · have hf := ifT c17 hf
            refine lv_iload hx hb dX9_hours_134 (lv_at hl 6 rfl) ?_
            refine lv_aload_n hx hb dX9_hours_136 rfl (lv_at hl 2 rfl) ?_
            refine gx_X9_3_1400 E hX hD hP dX9_hours_137 ?_
            refine gx_X9_15_1000 E hX hD hP dX9_hours_140 ?_
            refine lv_iload_n hx hb dX9_hours_143 rfl (lv_at hl 4 rfl) ?_
            refine lv_iload hx hb dX9_hours_144 (lv_at hl 1 rfl) ?_
            refine lv_iload_n hx hb dX9_hours_146 rfl (lv_at hl 5 rfl) ?_
            obtain ⟨v18, u19, hf⟩ := bdP hf
            refine cx_X9_57_X3_cost E hX hD hP hS hA (kxX3_cost l D G hD rfl rfl rfl rfl rfl rfl u19) ⟨rfl, rfl⟩ ⟨Nat.le_of_ble_eq_true rfl, Nat.le_of_ble_eq_true rfl⟩ ⟨Nat.zero_le _, Nat.zero_le _⟩ hl.1 (Nat.le_of_ble_eq_true rfl) dX9_hours_147 (fun H locs hP hS => ?_)
            refine lv_iadd hx hb dX9_hours_150 ?_
            obtain ⟨v20, hv20, hf⟩ := bdP hf
            refine nm_i (Option.some.inj hv20) ?_
            refine lv_istore (lv' := [(4, .int v20), (7, .int y4), (6, .int v8), (0, .ref (ad 1400)), (1, .int x1), (2, .int y3), (3, .int y4), (5, .int y6)]) hx hb dX9_hours_151 hl (by decide) rfl (fun ls hl => ?_)
            refine lv_iload hx hb dX9_hours_153 (lv_at hl 2 rfl) ?_
            refine lv_istore_n (lv' := [(2, .int v8), (4, .int v20), (7, .int y4), (6, .int v8), (0, .ref (ad 1400)), (1, .int x1), (3, .int y4), (5, .int y6)]) hx hb dX9_hours_155 rfl hl (by decide) rfl (fun ls hl => ?_)
            refine lv_aload_n hx hb dX9_hours_156 rfl (lv_at hl 4 rfl) ?_
            refine gx_X9_3_1400 E hX hD hP dX9_hours_157 ?_
            refine lv_iload_n hx hb dX9_hours_160 rfl (lv_at hl 0 rfl) ?_
            refine lv_iload_n hx hb dX9_hours_161 rfl (lv_at hl 6 rfl) ?_
            refine lv_iload_n hx hb dX9_hours_162 rfl (lv_at hl 5 rfl) ?_
            obtain ⟨v21, u22, hf⟩ := bdP hf
            refine cx_X9_25_X1_seeing E hX hD hP hS hA (kxX1_seeing l D G hD rfl rfl rfl u22) ⟨rfl, rfl⟩ ⟨Nat.le_of_ble_eq_true rfl, Nat.le_of_ble_eq_true rfl⟩ ⟨Nat.zero_le _, Nat.zero_le _⟩ hl.1 (Nat.le_of_ble_eq_true rfl) dX9_hours_163 (fun H locs hP hS => ?_)
            refine lv_istore_n (lv' := [(3, .int v21), (2, .int v8), (4, .int v20), (7, .int y4), (6, .int v8), (0, .ref (ad 1400)), (1, .int x1), (5, .int y6)]) hx hb dX9_hours_166 rfl hl (by decide) rfl (fun ls hl => ?_)
            exact J167 v8 v21 v20 hf H locs hP hS ls (lv_sub hl [5, 6, 1, 0, 2, 7, 3] rfl)
          · have hf := ifF c17 hf
            refine lv_aload_n hx hb dX9_hours_77 rfl (lv_at hl 2 rfl) ?_
            refine gx_X9_3_1400 E hX hD hP dX9_hours_78 ?_
            refine gx_X9_15_1000 E hX hD hP dX9_hours_81 ?_
            refine gx_X9_36_2000 E hX hD hP dX9_hours_84 ?_
            refine lv_iload hx hb dX9_hours_87 (lv_at hl 1 rfl) ?_
            refine lv_bipush hx hb dX9_hours_89 bp_100 ?_
            refine lv_isub hx hb dX9_hours_91 ?_
            obtain ⟨v23, u24, hf⟩ := bdP hf
            refine cx_X9_40_J2_get_Lw E hX hD hP hS hA (kxJ2_get_Lw l D G hD rfl rfl u24) ⟨rfl, rfl⟩ ⟨Nat.le_of_ble_eq_true rfl, Nat.le_of_ble_eq_true rfl⟩ ⟨Nat.zero_le _, Nat.zero_le _⟩ hl.1 (Nat.le_of_ble_eq_true rfl) dX9_hours_92 (fun H locs hP hS => ?_)
            obtain ⟨v25, hv25, hf⟩ := bdP hf
            refine p_castP (ci := 16) (q := (RX19, TX19, 3)) hx hb hX.1 hP hown (hts _ q1314) hv25 hD.2.2.1 rfl dX9_hours_95 ?_
            refine r_astore (lv' := [(8, va_rf (drf ad 8000 v25)), (7, .int y4), (6, .int v8), (0, .ref (ad 1400)), (1, .int x1), (2, .int y3), (3, .int y4), (4, .int y5), (5, .int y6)]) hx hb dX9_hours_98 hl (by decide) rfl (fun ls hl => ?_)
            refine lv_iload hx hb dX9_hours_100 (lv_at hl 7 rfl) ?_
            refine r_aload hx hb dX9_hours_102 (lv_at hl 0 rfl) ?_
            obtain ⟨v26, hv26, hf⟩ := bdP hf
            refine gp_X9_48_W E hX hD hP rfl hv26 dX9_hours_104 ?_
            refine lv_iadd hx hb dX9_hours_107 ?_
            obtain ⟨v27, hv27, hf⟩ := bdP hf
            refine nm_i (Option.some.inj hv27) ?_
            refine lv_istore (lv' := [(4, .int v27), (8, va_rf (drf ad 8000 v25)), (7, .int y4), (6, .int v8), (0, .ref (ad 1400)), (1, .int x1), (2, .int y3), (3, .int y4), (5, .int y6)]) hx hb dX9_hours_108 hl (by decide) rfl (fun ls hl => ?_)
            refine lv_iload_n hx hb dX9_hours_110 rfl (lv_at hl 7 rfl) ?_
            refine r_aload hx hb dX9_hours_111 (lv_at hl 1 rfl) ?_
            obtain ⟨v28, hv28, hf⟩ := bdP hf
            refine gp_X9_51_W E hX hD hP rfl hv28 dX9_hours_113 ?_
            refine lv_iconst hx hb dX9_hours_116 ic_1 ?_
            refine lv_iload_n hx hb dX9_hours_117 rfl (lv_at hl 5 rfl) ?_
            refine r_aload hx hb dX9_hours_118 (lv_at hl 1 rfl) ?_
            obtain ⟨v29, hv29, hf⟩ := bdP hf
            refine gp_X9_51_W E hX hD hP rfl hv29 dX9_hours_120 ?_
            refine lv_ishr hx hb dX9_hours_123 ?_
            refine lv_iconst hx hb dX9_hours_124 ic_1 ?_
            refine lv_iand hx hb dX9_hours_125 ?_
            refine lv_iadd hx hb dX9_hours_126 ?_
            obtain ⟨v30, u31, hf⟩ := bdP hf
            refine cx_X9_54_X1_with E hX hD hP hS hA (kxX1_with l D G hD rfl u31) ⟨rfl, rfl⟩ ⟨Nat.le_of_ble_eq_true rfl, Nat.le_of_ble_eq_true rfl⟩ ⟨Nat.zero_le _, Nat.zero_le _⟩ hl.1 (Nat.le_of_ble_eq_true rfl) dX9_hours_127 (fun H locs hP hS => ?_)
            refine lv_istore_n (lv' := [(3, .int v30), (4, .int v27), (8, va_rf (drf ad 8000 v25)), (7, .int y4), (6, .int v8), (0, .ref (ad 1400)), (1, .int x1), (2, .int y3), (5, .int y6)]) hx hb dX9_hours_130 rfl hl (by decide) rfl (fun ls hl => ?_)
            refine lv_goto (tgt := 167) hx hb dX9_hours_131 (by decide) ?_
            exact J167 y3 v30 v27 hf H locs hP hS ls (lv_sub hl [5, 6, 7, 0, 1, 8, 3] rfl)
        · have hf := ifF c11 hf
          exact KE28_0  (hx28 _ (Option.some.inj hf).symm).symm H locs hP hS ls (lv_sub hl [] rfl)
  obtain ⟨ex28, hlp28, hf⟩ := bdP hf
  refine LP28 ((σ.1 2012), v1, 0, 0) ex28 hlp28 H locs hP hS ls (lv_sub hl [4, 5, 3, 2, 1, 0] rfl) ?_ ?_
  · intro  hex28 H locs hP hS ls hl
    subst ex28
    dsimp only [sE_l, sE_r] at hf
    refine lv_bipush hx hb dX9_hours_64 bp_m2 ?_
    cases hf
    rw [hQ]; exact g_iret hx hb hr hlk hP hS dX9_hours_66
  · intro y32 hex28 H locs hP hS ls hl
    subst ex28
    dsimp only [sE_l, sE_r] at hf
    refine lv_iload hx hb dX9_hours_186 (lv_at hl 0 rfl) ?_
    cases hf
    rw [hQ]; exact g_iret hx hb hr hlk hP hS dX9_hours_188
theorem kxX9_hours_p0 (l : Launch) (D : va_G) (G : Nat → ClassId) {dsc : Nat → Option Dsc} {ad : Nat → Nat} {σ : Sto} {nr nw nu : Nat} (hD : XD dsc nr nw nu) {x1 : Int32} {r_ : Int32} {z_TB_by : Int32} (e_zI1062 : σ.1 1062 = z_TB_by) {z_L_places : Int32} (e_zI2008 : σ.1 2008 = z_L_places) {z_L_from : Int32} (e_zI2012 : σ.1 2012 = z_L_from) {z_L_to : Int32} (e_zI2013 : σ.1 2013 = z_L_to) {z_Ld_size : Int32} (e_zI2027 : σ.1 2027 = z_Ld_size) {z_Lw_size : Int32} (e_zI2032 : σ.1 2032 = z_Lw_size) {z_TB_none : Int64} (e_zL1061 : σ.2.1 1061 = z_TB_none) {a_UNIT : Nat → Int32} (e_aI1170 : σ.2.2.1 1170 = a_UNIT) {a_Lw_data : Nat → Int32} (e_aI2037 : σ.2.2.1 2037 = a_Lw_data) {a_L_seen : Nat → Int32} (e_aI2043 : σ.2.2.1 2043 = a_L_seen) {a_W_likely : Nat → Int64} (e_aL1141 : σ.2.2.2.1 1141 = a_W_likely) {a_TB_value : Nat → Int64} (e_aL1150 : σ.2.2.2.1 1150 = a_TB_value) {n_r : Nat} (e_nN0 : nr = n_r) {n_w : Nat} (e_nN1 : nw = n_w) {p_road_hours : Nat → Int32} (e_pR2 : (fun k => σ.1 (6000 + 16 * k + 2)) = p_road_hours) {p_road_wait : Nat → Int32} (e_pR5 : (fun k => σ.1 (6000 + 16 * k + 5)) = p_road_wait) {p_road_number : Nat → Int32} (e_pR6 : (fun k => σ.1 (6000 + 16 * k + 6)) = p_road_number) {p_word_place : Nat → Int32} (e_pW0 : (fun k => σ.1 (8000 + 16 * k + 0)) = p_word_place) {p_word_road : Nat → Int32} (e_pW1 : (fun k => σ.1 (8000 + 16 * k + 1)) = p_word_road) {p_word_hours : Nat → Int32} (e_pW2 : (fun k => σ.1 (8000 + 16 * k + 2)) = p_word_hours) {g_grid : Nat → Nat → Int32} (e_gG0 : (fun k => σ.2.2.1 (4000 + 16 * k)) = g_grid) (hf : xo_X9_hours_p0 z_TB_by z_L_places z_L_from z_L_to z_Ld_size z_Lw_size z_TB_none a_UNIT a_Lw_data a_L_seen a_W_likely a_TB_value n_r n_w p_road_hours p_road_wait p_road_number p_word_place p_word_road p_word_hours g_grid x1 = some r_) : CtG l D G dsc ad yX9_hours (ws_ yX9_hours cX9_hours 9 (Option.some Jvm.ClassFile.FieldType.int)) rmX9_hours_p0 [.ref (ad 1400), .int x1] σ (some (.int r_)) σ := by
  subst e_zI1062
  subst e_zI2008
  subst e_zI2012
  subst e_zI2013
  subst e_zI2027
  subst e_zI2032
  subst e_zL1061
  subst e_aI1170
  subst e_aI2037
  subst e_aI2043
  subst e_aL1141
  subst e_aL1150
  subst e_nN0
  subst e_nN1
  subst e_pR2
  subst e_pR5
  subst e_pR6
  subst e_pW0
  subst e_pW1
  subst e_pW2
  subst e_gG0
  exact p_ctG (by decide +kernel) (Nat.le_of_ble_eq_true rfl) (fun p e s m below meth c0 ls A E hP hX hA hS hl => wkX9_hours_p0 E hX hD hA hf rfl hP hS hl)
theorem gx_X5_15_1080 (E : EN p s m args meth c0 RX5 cc nL ret) (hX : KX D G ad A s s.heap) (hD : XD dsc nr nw nu) (hP : PIC D clsA G dsc ad σ H) (hdg : decode cc pc = .ok (.getfield 15, 3)) (kk : W p l e R s m args below meth c0 H locs cells slots Q (F0 m (pc + 3) ls (.ref (ad 1152) :: rest))) : W p l e R s m args below meth c0 H locs cells slots Q (F0 m pc ls (.ref (ad 1080) :: rest)) :=
  p_get E.1.1 E.1.2.1 E.1.2.2.2.2 in_X7 E.1.2.2.2.1 hX.1 hP (hD.1 _ _ dX_1080) rfl 0 (by decide) (E.1.2.2.2.2 _ q352) (fun _ h => h) rfl rfl hdg kk
/-! X5_value_TS (II)J -/
abbrev rmX5_value_TS : Room := { frames := 0, cells := 0, slots := 0, locals := 0 }
set_option maxHeartbeats 4000000 in
theorem wkX5_value_TS {x1 : Int32} {x2 : Int32} {r_ : Int64} (E : EN p s m args meth c0 RX5 cX5_value 3 (Option.some Jvm.ClassFile.FieldType.long)) (hX : KX D G ad A s s.heap) (hD : XD dsc nr nw nu) (hA : ∀ q, PA dsc ad s.heap.size q → A q) (hf : xo_X5_value_TS (σ.2.2.2.1 1152) x1 x2 = some r_) (hQ : Q = MQ below (va_G1 (some (.long r_)) (fun t => PIC D clsA G dsc ad σ t.heap) A) args s 0 0 A) (hP : PIC D clsA G dsc ad σ H) (hS : va_S A s.heap H locs) (hl : lv_has ls 3 [(0, .ref (ad 1080)), (1, .int x1), (2, .int x2)]) : W p l e rmX5_value_TS s m args below meth c0 H locs 0 0 Q (F0 m 0 ls []) := by
  obtain ⟨⟨hx, hb, hml, hown, hts⟩, hr, hlk⟩ := id E
  unfold xo_X5_value_TS at hf
  refine lv_aload_n hx hb dX5_value_0 rfl (lv_at hl 0 rfl) ?_
  refine gx_X5_15_1080 E hX hD hP dX5_value_1 ?_
  refine lv_bipush hx hb dX5_value_4 bp_10 ?_
  refine lv_iload_n hx hb dX5_value_6 rfl (lv_at hl 2 rfl) ?_
  refine lv_imul hx hb dX5_value_7 ?_
  refine lv_iload_n hx hb dX5_value_8 rfl (lv_at hl 1 rfl) ?_
  refine lv_iadd hx hb dX5_value_9 ?_
  obtain ⟨v1, hv1, hf⟩ := bdP hf
  refine p_lald hx hb hX.1 hP (hD.1 _ _ dX_1152) rfl hv1 dX5_value_10 ?_
  cases hf
  rw [hQ]; exact g_lret hx hb hr hlk hP hS dX5_value_11
theorem kxX5_value_TS (l : Launch) (D : va_G) (G : Nat → ClassId) {dsc : Nat → Option Dsc} {ad : Nat → Nat} {σ : Sto} {nr nw nu : Nat} (hD : XD dsc nr nw nu) {x1 : Int32} {x2 : Int32} {r_ : Int64} {a_TS_value : Nat → Int64} (e_aL1152 : σ.2.2.2.1 1152 = a_TS_value) (hf : xo_X5_value_TS a_TS_value x1 x2 = some r_) : CtG l D G dsc ad yX5_value (ws_ yX5_value cX5_value 3 (Option.some Jvm.ClassFile.FieldType.long)) rmX5_value_TS [.ref (ad 1080), .int x1, .int x2] σ (some (.long r_)) σ := by
  subst e_aL1152
  exact p_ctG (by decide +kernel) (Nat.le_of_ble_eq_true rfl) (fun p e s m below meth c0 ls A E hP hX hA hS hl => wkX5_value_TS E hX hD hA hf rfl hP hS hl)
/-! X6_end_TS (I)J -/
abbrev rmX6_end_TS : Room := { frames := 0, cells := 0, slots := 0, locals := 0 }
set_option maxHeartbeats 4000000 in
theorem wkX6_end_TS {x1 : Int32} {r_ : Int64} (E : EN p s m args meth c0 RX6 cX6_end 2 (Option.some Jvm.ClassFile.FieldType.long)) (hX : KX D G ad A s s.heap) (hD : XD dsc nr nw nu) (hA : ∀ q, PA dsc ad s.heap.size q → A q) (hf : xo_X6_end_TS x1 = some r_) (hQ : Q = MQ below (va_G1 (some (.long r_)) (fun t => PIC D clsA G dsc ad σ t.heap) A) args s 0 0 A) (hP : PIC D clsA G dsc ad σ H) (hS : va_S A s.heap H locs) (hl : lv_has ls 2 [(0, .ref (ad 1080)), (1, .int x1)]) : W p l e rmX6_end_TS s m args below meth c0 H locs 0 0 Q (F0 m 0 ls []) := by
  obtain ⟨⟨hx, hb, hml, hown, hts⟩, hr, hlk⟩ := id E
  unfold xo_X6_end_TS at hf
  refine lv_lconst hx hb dX6_end_0 lc_0 ?_
  cases hf
  rw [hQ]; exact g_lret hx hb hr hlk hP hS dX6_end_1
theorem kxX6_end_TS (l : Launch) (D : va_G) (G : Nat → ClassId) {dsc : Nat → Option Dsc} {ad : Nat → Nat} {σ : Sto} {nr nw nu : Nat} (hD : XD dsc nr nw nu) {x1 : Int32} {r_ : Int64} (hf : xo_X6_end_TS x1 = some r_) : CtG l D G dsc ad yX6_end (ws_ yX6_end cX6_end 2 (Option.some Jvm.ClassFile.FieldType.long)) rmX6_end_TS [.ref (ad 1080), .int x1] σ (some (.long r_)) σ := by
  exact p_ctG (by decide +kernel) (Nat.le_of_ble_eq_true rfl) (fun p e s m below meth c0 ls A E hP hX hA hS hl => wkX6_end_TS E hX hD hA hf rfl hP hS hl)
/-! X7_both_TS (JJ)J -/
abbrev rmX7_both_TS : Room := { frames := 1, cells := 0, slots := 0, locals := 23 }
set_option maxHeartbeats 4000000 in
theorem wkX7_both_TS {x1 : Int64} {x3 : Int64} {r_ : Int64} (E : EN p s m args meth c0 RX7 cX7_both 5 (Option.some Jvm.ClassFile.FieldType.long)) (hX : KX D G ad A s s.heap) (hD : XD dsc nr nw nu) (hA : ∀ q, PA dsc ad s.heap.size q → A q) (hf : xo_X7_both_TS x1 x3 = some r_) (hQ : Q = MQ below (va_G1 (some (.long r_)) (fun t => PIC D clsA G dsc ad σ t.heap) A) args s 0 0 A) (hP : PIC D clsA G dsc ad σ H) (hS : va_S A s.heap H locs) (hl : lv_has ls 5 [(0, .ref (ad 1080)), (1, .long x1), (3, .long x3)]) : W p l e rmX7_both_TS s m args below meth c0 H locs 0 0 Q (F0 m 0 ls []) := by
  obtain ⟨⟨hx, hb, hml, hown, hts⟩, hr, hlk⟩ := id E
  unfold xo_X7_both_TS at hf
  refine lv_lload_n hx hb dX7_both_0 rfl (lv_at hl 1 rfl) ?_
  refine lv_lload_n hx hb dX7_both_1 rfl (lv_at hl 2 rfl) ?_
  refine va_mmax_long hx hb (hml.trans hl.1.symm) hown (hts _ q1146) (hts _ q1147) (hts _ q152) (hts _ q1148) (Nat.le_of_ble_eq_true rfl) (Nat.le_of_ble_eq_true rfl) (Nat.zero_le _) (Nat.zero_le _) dX7_both_2 ?_
  obtain ⟨v1, hv1, hf⟩ := bdP hf
  refine nm_l (Option.some.inj hv1) ?_
  cases hf
  rw [hQ]; exact g_lret hx hb hr hlk hP hS dX7_both_5
theorem kxX7_both_TS (l : Launch) (D : va_G) (G : Nat → ClassId) {dsc : Nat → Option Dsc} {ad : Nat → Nat} {σ : Sto} {nr nw nu : Nat} (hD : XD dsc nr nw nu) {x1 : Int64} {x3 : Int64} {r_ : Int64} (hf : xo_X7_both_TS x1 x3 = some r_) : CtG l D G dsc ad yX7_both (ws_ yX7_both cX7_both 5 (Option.some Jvm.ClassFile.FieldType.long)) rmX7_both_TS [.ref (ad 1080), .long x1, .long x3] σ (some (.long r_)) σ := by
  exact p_ctG (by decide +kernel) (Nat.le_of_ble_eq_true rfl) (fun p e s m below meth c0 ls A E hP hX hA hS hl => wkX7_both_TS E hX hD hA hf rfl hP hS hl)
theorem cx_X5_125_X5_shown_TS {rm : Room} {σ1 : Sto} {x1 : Int32} {x2 : Int32} {x3 : Int32} {x4 : Int32} {x5 : Int32} {r : Int64} (E : EN p s m args meth c0 RX5 cc nL ret) (hX : KX D G ad A s s.heap) (hD : XD dsc nr nw nu) (hP : PIC D clsA G dsc ad σ H) (hS : va_S A s.heap H locs) (hA : ∀ q, PA dsc ad s.heap.size q → A q) (hM : CtG l D G dsc ad yX5_shown (ws_ yX5_shown cX5_shown 6 (Option.some Jvm.ClassFile.FieldType.long)) rm [.ref (ad 1080), .int x1, .int x2, .int x3, .int x4, .int x5] σ (some (.long r)) σ1) (hz : rm.cells = 0 ∧ rm.slots = 0) (hR : rm.frames + 1 ≤ R.frames ∧ 8 + (6 + 11) + rm.locals ≤ R.locals) (hcs : cells ≤ R.cells ∧ slots ≤ R.slots) (hsz : ls.size = nL) (hW : (rest.map fun v => v.category).sum ≤ 8) (hdg : decode cc pc = .ok (.invokevirtual 125, 3)) (kk : ∀ (H1 : Heap) (locs1 : List Loc), PIC D clsA G dsc ad σ1 H1 → va_S A s.heap H1 locs1 → W p l e R s m args below meth c0 H1 locs1 cells slots Q (F0 m (pc + 3) ls (.long r :: rest))) : W p l e R s m args below meth c0 H locs cells slots Q (F0 m pc ls (.int x5 :: .int x4 :: .int x3 :: .int x2 :: .int x1 :: .ref (ad 1080) :: rest)) :=
  p_gU (As := [.int x1, .int x2, .int x3, .int x4, .int x5]) (rest := rest) E.1 hX hP hS hA hM (cw_any (owner := "ShutPasses$Table") (x := ⟨"ShutPasses$Table", "shown", "(IIIII)J"⟩) (y := yX5_shown) (C := "ShutPasses$AtWorst") (index := 125) (own := RX5) 5 E.1.2.2.2.2 (lw_meth q1136) rfl hz.1 hz.2 (E.1.2.2.2.2 _ q1133) (E.1.2.2.2.2 _ q2281) (va_Decl.of (E.1.2.2.2.2 _ q1135) (E.1.2.2.2.2 _ q1136)) (va_Nw.use rfl (hX.2.1.2 ("ShutPasses$AtWorst", yX5_shown) (by decide +kernel))) (E.1.2.2.2.2 _ q1135) (E.1.2.2.2.2 _ q131) (by decide +kernel) hR) (hD.1 _ _ dX_1080) rfl rfl rfl hsz rfl hW hdg hcs kk
theorem gx_X5_23_1080 {v : Int32} (E : EN p s m args meth c0 RX5 cc nL ret) (hX : KX D G ad A s s.heap) (hD : XD dsc nr nw nu) (hP : PIC D clsA G dsc ad σ H) (hv : σ.1 1082 = v) (hdg : decode cc pc = .ok (.getfield 23, 3)) (kk : W p l e R s m args below meth c0 H locs cells slots Q (F0 m (pc + 3) ls (va_rf (drf ad 1050 v) :: rest))) : W p l e R s m args below meth c0 H locs cells slots Q (F0 m pc ls (.ref (ad 1080) :: rest)) :=
  p_get E.1.1 E.1.2.1 E.1.2.2.2.2 in_X7 E.1.2.2.2.1 hX.1 hP (hD.1 _ _ dX_1080) rfl 2 (by decide) (E.1.2.2.2.2 _ q363) (fun _ h => h) rfl (congrArg (fun z => va_rf (drf ad 1050 z)) hv) hdg kk
theorem gx_X5_19_1080 {v : Int64} (E : EN p s m args meth c0 RX5 cc nL ret) (hX : KX D G ad A s s.heap) (hD : XD dsc nr nw nu) (hP : PIC D clsA G dsc ad σ H) (hv : σ.2.1 1081 = v) (hdg : decode cc pc = .ok (.getfield 19, 3)) (kk : W p l e R s m args below meth c0 H locs cells slots Q (F0 m (pc + 3) ls (.long v :: rest))) : W p l e R s m args below meth c0 H locs cells slots Q (F0 m pc ls (.ref (ad 1080) :: rest)) :=
  p_get E.1.1 E.1.2.1 E.1.2.2.2.2 in_X7 E.1.2.2.2.1 hX.1 hP (hD.1 _ _ dX_1080) rfl 1 (by decide) (E.1.2.2.2.2 _ q353) (fun _ h => h) rfl (congrArg Value.long hv) hdg kk
theorem cx_X5_132_X7_both_TS {rm : Room} {σ1 : Sto} {x1 : Int64} {x3 : Int64} {r : Int64} (E : EN p s m args meth c0 RX5 cc nL ret) (hX : KX D G ad A s s.heap) (hD : XD dsc nr nw nu) (hP : PIC D clsA G dsc ad σ H) (hS : va_S A s.heap H locs) (hA : ∀ q, PA dsc ad s.heap.size q → A q) (hM : CtG l D G dsc ad yX7_both (ws_ yX7_both cX7_both 5 (Option.some Jvm.ClassFile.FieldType.long)) rm [.ref (ad 1080), .long x1, .long x3] σ (some (.long r)) σ1) (hz : rm.cells = 0 ∧ rm.slots = 0) (hR : rm.frames + 1 ≤ R.frames ∧ 8 + (5 + 11) + rm.locals ≤ R.locals) (hcs : cells ≤ R.cells ∧ slots ≤ R.slots) (hsz : ls.size = nL) (hW : (rest.map fun v => v.category).sum ≤ 8) (hdg : decode cc pc = .ok (.invokevirtual 132, 3)) (kk : ∀ (H1 : Heap) (locs1 : List Loc), PIC D clsA G dsc ad σ1 H1 → va_S A s.heap H1 locs1 → W p l e R s m args below meth c0 H1 locs1 cells slots Q (F0 m (pc + 3) ls (.long r :: rest))) : W p l e R s m args below meth c0 H locs cells slots Q (F0 m pc ls (.long x3 :: .long x1 :: .ref (ad 1080) :: rest)) :=
  p_gU (As := [.long x1, .long x3]) (rest := rest) E.1 hX hP hS hA hM (cw_any (owner := "ShutPasses$Table") (x := ⟨"ShutPasses$Table", "both", "(JJ)J"⟩) (y := yX7_both) (C := "ShutPasses$AtWorst") (index := 132) (own := RX5) 2 E.1.2.2.2.2 (lw_meth q1145) rfl hz.1 hz.2 (E.1.2.2.2.2 _ q1140) (E.1.2.2.2.2 _ q1142) (va_Decl.abs (hX.2.1.1 _ q1141 rfl)) (E.1.2.2.2.2 _ q1143) (E.1.2.2.2.2 _ q1144) (E.1.2.2.2.2 _ q133) (by decide +kernel) hR) (hD.1 _ _ dX_1080) rfl rfl rfl hsz rfl hW hdg hcs kk
theorem cx_X5_117_X5_arrived_TS {rm : Room} {σ1 : Sto} {x1 : Int32} {x2 : Int32} {r : Int64} (E : EN p s m args meth c0 RX5 cc nL ret) (hX : KX D G ad A s s.heap) (hD : XD dsc nr nw nu) (hP : PIC D clsA G dsc ad σ H) (hS : va_S A s.heap H locs) (hA : ∀ q, PA dsc ad s.heap.size q → A q) (hM : CtG l D G dsc ad yX5_arrived (ws_ yX5_arrived cX5_arrived 3 (Option.some Jvm.ClassFile.FieldType.long)) rm [.ref (ad 1080), .int x1, .int x2] σ (some (.long r)) σ1) (hz : rm.cells = 0 ∧ rm.slots = 0) (hR : rm.frames + 1 ≤ R.frames ∧ 8 + (3 + 11) + rm.locals ≤ R.locals) (hcs : cells ≤ R.cells ∧ slots ≤ R.slots) (hsz : ls.size = nL) (hW : (rest.map fun v => v.category).sum ≤ 8) (hdg : decode cc pc = .ok (.invokevirtual 117, 3)) (kk : ∀ (H1 : Heap) (locs1 : List Loc), PIC D clsA G dsc ad σ1 H1 → va_S A s.heap H1 locs1 → W p l e R s m args below meth c0 H1 locs1 cells slots Q (F0 m (pc + 3) ls (.long r :: rest))) : W p l e R s m args below meth c0 H locs cells slots Q (F0 m pc ls (.int x2 :: .int x1 :: .ref (ad 1080) :: rest)) :=
  p_gU (As := [.int x1, .int x2]) (rest := rest) E.1 hX hP hS hA hM (cw_any (owner := "ShutPasses$Table") (x := ⟨"ShutPasses$Table", "arrived", "(II)J"⟩) (y := yX5_arrived) (C := "ShutPasses$AtWorst") (index := 117) (own := RX5) 2 E.1.2.2.2.2 (lw_meth q1128) rfl hz.1 hz.2 (E.1.2.2.2.2 _ q1125) (E.1.2.2.2.2 _ q2280) (va_Decl.of (E.1.2.2.2.2 _ q1127) (E.1.2.2.2.2 _ q1128)) (va_Nw.use rfl (hX.2.1.2 ("ShutPasses$AtWorst", yX5_arrived) (by decide +kernel))) (E.1.2.2.2.2 _ q1127) (E.1.2.2.2.2 _ q131) (by decide +kernel) hR) (hD.1 _ _ dX_1080) rfl rfl rfl hsz rfl hW hdg hcs kk
theorem cx_X5_114_X5_over_TS {rm : Room} {σ1 : Sto} {x1 : Int32} {x2 : Int32} {x3 : Int32} {r : Int64} (E : EN p s m args meth c0 RX5 cc nL ret) (hX : KX D G ad A s s.heap) (hD : XD dsc nr nw nu) (hP : PIC D clsA G dsc ad σ H) (hS : va_S A s.heap H locs) (hA : ∀ q, PA dsc ad s.heap.size q → A q) (hM : CtG l D G dsc ad yX5_over (ws_ yX5_over cX5_over 9 (Option.some Jvm.ClassFile.FieldType.long)) rm [.ref (ad 1080), .int x1, .int x2, .int x3] σ (some (.long r)) σ1) (hz : rm.cells = 0 ∧ rm.slots = 0) (hR : rm.frames + 1 ≤ R.frames ∧ 8 + (9 + 11) + rm.locals ≤ R.locals) (hcs : cells ≤ R.cells ∧ slots ≤ R.slots) (hsz : ls.size = nL) (hW : (rest.map fun v => v.category).sum ≤ 8) (hdg : decode cc pc = .ok (.invokevirtual 114, 3)) (kk : ∀ (H1 : Heap) (locs1 : List Loc), PIC D clsA G dsc ad σ1 H1 → va_S A s.heap H1 locs1 → W p l e R s m args below meth c0 H1 locs1 cells slots Q (F0 m (pc + 3) ls (.long r :: rest))) : W p l e R s m args below meth c0 H locs cells slots Q (F0 m pc ls (.int x3 :: .int x2 :: .int x1 :: .ref (ad 1080) :: rest)) :=
  p_gU (As := [.int x1, .int x2, .int x3]) (rest := rest) E.1 hX hP hS hA hM (cw_any (owner := "ShutPasses$Table") (x := ⟨"ShutPasses$Table", "over", "(III)J"⟩) (y := yX5_over) (C := "ShutPasses$AtWorst") (index := 114) (own := RX5) 3 E.1.2.2.2.2 (lw_meth q1124) rfl hz.1 hz.2 (E.1.2.2.2.2 _ q1118) (E.1.2.2.2.2 _ q1120) (va_Decl.of (E.1.2.2.2.2 _ q1119) (E.1.2.2.2.2 _ q1124)) (E.1.2.2.2.2 _ q1121) (E.1.2.2.2.2 _ q1119) (E.1.2.2.2.2 _ q131) (by decide +kernel) hR) (hD.1 _ _ dX_1080) rfl rfl rfl hsz rfl hW hdg hcs kk
theorem gx_X5_3_1080 (E : EN p s m args meth c0 RX5 cc nL ret) (hX : KX D G ad A s s.heap) (hD : XD dsc nr nw nu) (hP : PIC D clsA G dsc ad σ H) (hdg : decode cc pc = .ok (.getfield 3, 3)) (kk : W p l e R s m args below meth c0 H locs cells slots Q (F0 m (pc + 3) ls (.ref (ad 1000) :: rest))) : W p l e R s m args below meth c0 H locs cells slots Q (F0 m pc ls (.ref (ad 1080) :: rest)) :=
  p_get E.1.1 E.1.2.1 E.1.2.2.2.2 in_X7 E.1.2.2.2.1 hX.1 hP (hD.1 _ _ dX_1080) rfl 3 (by decide) (E.1.2.2.2.2 _ q364) (fun _ h => h) rfl rfl hdg kk
theorem cx_X5_81_X5_value_TS {rm : Room} {σ1 : Sto} {x1 : Int32} {x2 : Int32} {r : Int64} (E : EN p s m args meth c0 RX5 cc nL ret) (hX : KX D G ad A s s.heap) (hD : XD dsc nr nw nu) (hP : PIC D clsA G dsc ad σ H) (hS : va_S A s.heap H locs) (hA : ∀ q, PA dsc ad s.heap.size q → A q) (hM : CtG l D G dsc ad yX5_value (ws_ yX5_value cX5_value 3 (Option.some Jvm.ClassFile.FieldType.long)) rm [.ref (ad 1080), .int x1, .int x2] σ (some (.long r)) σ1) (hz : rm.cells = 0 ∧ rm.slots = 0) (hR : rm.frames + 1 ≤ R.frames ∧ 8 + (3 + 11) + rm.locals ≤ R.locals) (hcs : cells ≤ R.cells ∧ slots ≤ R.slots) (hsz : ls.size = nL) (hW : (rest.map fun v => v.category).sum ≤ 8) (hdg : decode cc pc = .ok (.invokevirtual 81, 3)) (kk : ∀ (H1 : Heap) (locs1 : List Loc), PIC D clsA G dsc ad σ1 H1 → va_S A s.heap H1 locs1 → W p l e R s m args below meth c0 H1 locs1 cells slots Q (F0 m (pc + 3) ls (.long r :: rest))) : W p l e R s m args below meth c0 H locs cells slots Q (F0 m pc ls (.int x2 :: .int x1 :: .ref (ad 1080) :: rest)) :=
  p_gU (As := [.int x1, .int x2]) (rest := rest) E.1 hX hP hS hA hM (cw_any (owner := "ShutPasses$Table") (x := ⟨"ShutPasses$Table", "value", "(II)J"⟩) (y := yX5_value) (C := "ShutPasses$AtWorst") (index := 81) (own := RX5) 2 E.1.2.2.2.2 (lw_meth q1096) rfl hz.1 hz.2 (E.1.2.2.2.2 _ q1090) (E.1.2.2.2.2 _ q1092) (va_Decl.of (E.1.2.2.2.2 _ q1091) (E.1.2.2.2.2 _ q1096)) (E.1.2.2.2.2 _ q1093) (E.1.2.2.2.2 _ q1091) (E.1.2.2.2.2 _ q131) (by decide +kernel) hR) (hD.1 _ _ dX_1080) rfl rfl rfl hsz rfl hW hdg hcs kk
theorem cx_X5_70_X6_end_TS {rm : Room} {σ1 : Sto} {x1 : Int32} {r : Int64} (E : EN p s m args meth c0 RX5 cc nL ret) (hX : KX D G ad A s s.heap) (hD : XD dsc nr nw nu) (hP : PIC D clsA G dsc ad σ H) (hS : va_S A s.heap H locs) (hA : ∀ q, PA dsc ad s.heap.size q → A q) (hM : CtG l D G dsc ad yX6_end (ws_ yX6_end cX6_end 2 (Option.some Jvm.ClassFile.FieldType.long)) rm [.ref (ad 1080), .int x1] σ (some (.long r)) σ1) (hz : rm.cells = 0 ∧ rm.slots = 0) (hR : rm.frames + 1 ≤ R.frames ∧ 8 + (2 + 11) + rm.locals ≤ R.locals) (hcs : cells ≤ R.cells ∧ slots ≤ R.slots) (hsz : ls.size = nL) (hW : (rest.map fun v => v.category).sum ≤ 8) (hdg : decode cc pc = .ok (.invokevirtual 70, 3)) (kk : ∀ (H1 : Heap) (locs1 : List Loc), PIC D clsA G dsc ad σ1 H1 → va_S A s.heap H1 locs1 → W p l e R s m args below meth c0 H1 locs1 cells slots Q (F0 m (pc + 3) ls (.long r :: rest))) : W p l e R s m args below meth c0 H locs cells slots Q (F0 m pc ls (.int x1 :: .ref (ad 1080) :: rest)) :=
  p_gU (As := [.int x1]) (rest := rest) E.1 hX hP hS hA hM (cw_any (owner := "ShutPasses$Table") (x := ⟨"ShutPasses$Table", "end", "(I)J"⟩) (y := yX6_end) (C := "ShutPasses$AtWorst") (index := 70) (own := RX5) 1 E.1.2.2.2.2 (lw_meth q1070) rfl hz.1 hz.2 (E.1.2.2.2.2 _ q1065) (E.1.2.2.2.2 _ q1067) (va_Decl.abs (hX.2.1.1 _ q1066 rfl)) (E.1.2.2.2.2 _ q1068) (E.1.2.2.2.2 _ q1069) (E.1.2.2.2.2 _ q132) (by decide +kernel) hR) (hD.1 _ _ dX_1080) rfl rfl rfl hsz rfl hW hdg hcs kk
abbrev rmG_T_TS (d : Nat) : Room := { frames := 2 + d, cells := 0, slots := 0, locals := 47 + d * 28 }
/-! X5_over_TS (III)J -/
abbrev rmX5_over_TS : Room := rmG_T_TS 40
set_option maxHeartbeats 4000000 in
theorem wkX5_over_TS {x1 : Int32} {x2 : Int32} {x3 : Int32} {r_ : Int64} {d : Nat} {f_X5_over : Int32 → Int32 → Int32 → Option (Int64)} {f_X5_shown : Int32 → Int32 → Int32 → Int32 → Int32 → Option (Int64)} {f_X5_arrived : Int32 → Int32 → Option (Int64)} (hrec_X5_over : ∀ (σ1 : Sto) {x1 : Int32} {x2 : Int32} {x3 : Int32} {r_ : Int64} (_ : σ1.1 1082 = (σ.1 1082)) (_ : σ1.1 2013 = (σ.1 2013)) (_ : σ1.1 2027 = (σ.1 2027)) (_ : σ1.2.1 1081 = (σ.2.1 1081)) (_ : σ1.2.2.1 1170 = (σ.2.2.1 1170)) (_ : σ1.2.2.1 2043 = (σ.2.2.1 2043)) (_ : σ1.2.2.2.1 1141 = (σ.2.2.2.1 1141)) (_ : σ1.2.2.2.1 1152 = (σ.2.2.2.1 1152)), f_X5_over x1 x2 x3 = some r_ → CtG l D G dsc ad yX5_over (ws_ yX5_over cX5_over 9 (Option.some Jvm.ClassFile.FieldType.long)) (rmG_T_TS d) [.ref (ad 1080), .int x1, .int x2, .int x3] σ1 (some (.long r_)) σ1) (hrec_X5_shown : ∀ (σ1 : Sto) {x1 : Int32} {x2 : Int32} {x3 : Int32} {x4 : Int32} {x5 : Int32} {r_ : Int64} (_ : σ1.1 1082 = (σ.1 1082)) (_ : σ1.1 2013 = (σ.1 2013)) (_ : σ1.1 2027 = (σ.1 2027)) (_ : σ1.2.1 1081 = (σ.2.1 1081)) (_ : σ1.2.2.1 1170 = (σ.2.2.1 1170)) (_ : σ1.2.2.1 2043 = (σ.2.2.1 2043)) (_ : σ1.2.2.2.1 1141 = (σ.2.2.2.1 1141)) (_ : σ1.2.2.2.1 1152 = (σ.2.2.2.1 1152)), f_X5_shown x1 x2 x3 x4 x5 = some r_ → CtG l D G dsc ad yX5_shown (ws_ yX5_shown cX5_shown 6 (Option.some Jvm.ClassFile.FieldType.long)) (rmG_T_TS d) [.ref (ad 1080), .int x1, .int x2, .int x3, .int x4, .int x5] σ1 (some (.long r_)) σ1) (hrec_X5_arrived : ∀ (σ1 : Sto) {x1 : Int32} {x2 : Int32} {r_ : Int64} (_ : σ1.1 1082 = (σ.1 1082)) (_ : σ1.1 2013 = (σ.1 2013)) (_ : σ1.1 2027 = (σ.1 2027)) (_ : σ1.2.1 1081 = (σ.2.1 1081)) (_ : σ1.2.2.1 1170 = (σ.2.2.1 1170)) (_ : σ1.2.2.1 2043 = (σ.2.2.1 2043)) (_ : σ1.2.2.2.1 1141 = (σ.2.2.2.1 1141)) (_ : σ1.2.2.2.1 1152 = (σ.2.2.2.1 1152)), f_X5_arrived x1 x2 = some r_ → CtG l D G dsc ad yX5_arrived (ws_ yX5_arrived cX5_arrived 3 (Option.some Jvm.ClassFile.FieldType.long)) (rmG_T_TS d) [.ref (ad 1080), .int x1, .int x2] σ1 (some (.long r_)) σ1) (E : EN p s m args meth c0 RX5 cX5_over 9 (Option.some Jvm.ClassFile.FieldType.long)) (hX : KX D G ad A s s.heap) (hD : XD dsc nr nw nu) (hA : ∀ q, PA dsc ad s.heap.size q → A q) (hf : xo_X5_over_TS_B f_X5_over f_X5_shown f_X5_arrived (σ.1 1082) (σ.1 2013) (σ.1 2027) (σ.2.1 1081) (σ.2.2.1 1170) (σ.2.2.1 2043) (σ.2.2.2.1 1141) (σ.2.2.2.1 1152) x1 x2 x3 = some r_) (hQ : Q = MQ below (va_G1 (some (.long r_)) (fun t => PIC D clsA G dsc ad σ t.heap) A) args s 0 0 A) (hP : PIC D clsA G dsc ad σ H) (hS : va_S A s.heap H locs) (hl : lv_has ls 9 [(0, .ref (ad 1080)), (1, .int x1), (2, .int x2), (3, .int x3)]) : W p l e (rmG_T_TS (d + 1)) s m args below meth c0 H locs 0 0 Q (F0 m 0 ls []) := by
  obtain ⟨⟨hx, hb, hml, hown, hts⟩, hr, hlk⟩ := id E
  unfold xo_X5_over_TS_B at hf
  refine lv_iload_n hx hb dX5_over_0 rfl (lv_at hl 1 rfl) ?_
  refine lv_if_ne (tgt := 11) hx hb dX5_over_1 (by decide) (fun c1 => ?_) (fun c1 => ?_)
  · have hf := ifF c1 hf
    refine lv_iload_n hx hb dX5_over_11 rfl (lv_at hl 1 rfl) ?_
    obtain ⟨v2, u3, hf⟩ := bdP hf
    refine cx_X5_120_J17_numberOfTrailingZeros E hX hD hP hS hA (kxJ17_numberOfTrailingZeros l D G hD u3) ⟨rfl, rfl⟩ ⟨by dsimp only [rmG_T_TS, rmJ17_numberOfTrailingZeros]; omega, by dsimp only [rmG_T_TS, rmJ17_numberOfTrailingZeros]; omega⟩ ⟨Nat.zero_le _, Nat.zero_le _⟩ hl.1 (Nat.le_of_ble_eq_true rfl) dX5_over_12 (fun H locs hP hS => ?_)
    refine lv_istore (lv' := [(4, .int v2), (0, .ref (ad 1080)), (1, .int x1), (2, .int x2), (3, .int x3)]) hx hb dX5_over_15 hl (by decide) rfl (fun ls hl => ?_)
    refine lv_aload_n hx hb dX5_over_17 rfl (lv_at hl 1 rfl) ?_
    refine lv_iload_n hx hb dX5_over_18 rfl (lv_at hl 2 rfl) ?_
    refine lv_iload hx hb dX5_over_19 (lv_at hl 0 rfl) ?_
    refine lv_iconst hx hb dX5_over_21 ic_1 ?_
    refine lv_iload_n hx hb dX5_over_22 rfl (lv_at hl 3 rfl) ?_
    refine lv_iload_n hx hb dX5_over_23 rfl (lv_at hl 4 rfl) ?_
    obtain ⟨v4, u5, hf⟩ := bdP hf
    refine cx_X5_125_X5_shown_TS E hX hD hP hS hA (hrec_X5_shown _ rfl rfl rfl rfl rfl rfl rfl rfl u5) ⟨rfl, rfl⟩ ⟨Nat.le_refl _, by dsimp only [rmG_T_TS]; omega⟩ ⟨Nat.zero_le _, Nat.zero_le _⟩ hl.1 (Nat.le_of_ble_eq_true rfl) dX5_over_24 (fun H locs hP hS => ?_)
    refine lv_lstore (lv' := [(5, .long v4), (4, .int v2), (0, .ref (ad 1080)), (1, .int x1), (2, .int x2), (3, .int x3)]) hx hb dX5_over_27 hl (by decide) rfl (fun ls hl => ?_)
    refine lv_aload_n hx hb dX5_over_29 rfl (lv_at hl 2 rfl) ?_
    refine lv_iload_n hx hb dX5_over_30 rfl (lv_at hl 3 rfl) ?_
    refine lv_iload hx hb dX5_over_31 (lv_at hl 1 rfl) ?_
    refine lv_iconst hx hb dX5_over_33 ic_2 ?_
    refine lv_iload_n hx hb dX5_over_34 rfl (lv_at hl 4 rfl) ?_
    refine lv_iload_n hx hb dX5_over_35 rfl (lv_at hl 5 rfl) ?_
    obtain ⟨v6, u7, hf⟩ := bdP hf
    refine cx_X5_125_X5_shown_TS E hX hD hP hS hA (hrec_X5_shown _ rfl rfl rfl rfl rfl rfl rfl rfl u7) ⟨rfl, rfl⟩ ⟨Nat.le_refl _, by dsimp only [rmG_T_TS]; omega⟩ ⟨Nat.zero_le _, Nat.zero_le _⟩ hl.1 (Nat.le_of_ble_eq_true rfl) dX5_over_36 (fun H locs hP hS => ?_)
    refine lv_lstore (lv' := [(7, .long v6), (5, .long v4), (4, .int v2), (0, .ref (ad 1080)), (1, .int x1), (2, .int x2), (3, .int x3)]) hx hb dX5_over_39 hl (by decide) rfl (fun ls hl => ?_)
    refine lv_aload_n hx hb dX5_over_41 rfl (lv_at hl 3 rfl) ?_
    refine gx_X5_23_1080 (v := (σ.1 1082)) E hX hD hP rfl dX5_over_42 ?_
    obtain ⟨v8, hv8, hf⟩ := bdP hf
    refine p_nn0 (ckz_some hv8) ?_
    refine gx_X5_46_1050 E hX hD hP dX5_over_45 ?_
    refine lv_iload_n hx hb dX5_over_48 rfl (lv_at hl 6 rfl) ?_
    refine lv_iload hx hb dX5_over_49 (lv_at hl 2 rfl) ?_
    refine lv_iconst hx hb dX5_over_51 ic_1 ?_
    obtain ⟨v9, u10, hf⟩ := bdP hf
    refine cx_X5_129_X1_with E hX hD hP hS hA (kxX1_with l D G hD rfl u10) ⟨rfl, rfl⟩ ⟨by dsimp only [rmG_T_TS, rmX1_with]; omega, by dsimp only [rmG_T_TS, rmX1_with]; omega⟩ ⟨Nat.zero_le _, Nat.zero_le _⟩ hl.1 (Nat.le_of_ble_eq_true rfl) dX5_over_52 (fun H locs hP hS => ?_)
    obtain ⟨v11, hv11, hf⟩ := bdP hf
    refine p_lald hx hb hX.1 hP (hD.1 _ _ dX_1141) rfl hv11 dX5_over_55 ?_
    refine lv_lconst hx hb dX5_over_56 lc_0 ?_
    refine W.lcmp hx hb dX5_over_57 ?_
    refine lv_if_ne (tgt := 64) hx hb dX5_over_58 (by decide) (fun c12 => ?_) (fun c12 => ?_)
    · have hf := ifF (mt (lgc_eq _ _).mpr c12) hf
      refine lv_aload_n hx hb dX5_over_64 rfl (lv_at hl 3 rfl) ?_
      refine gx_X5_23_1080 (v := (σ.1 1082)) E hX hD hP rfl dX5_over_65 ?_
      obtain ⟨v13, hv13, hf⟩ := bdP hf
      refine p_nn0 (ckz_some hv13) ?_
      refine gx_X5_46_1050 E hX hD hP dX5_over_68 ?_
      refine lv_iload_n hx hb dX5_over_71 rfl (lv_at hl 6 rfl) ?_
      refine lv_iload hx hb dX5_over_72 (lv_at hl 2 rfl) ?_
      refine lv_iconst hx hb dX5_over_74 ic_2 ?_
      obtain ⟨v14, u15, hf⟩ := bdP hf
      refine cx_X5_129_X1_with E hX hD hP hS hA (kxX1_with l D G hD rfl u15) ⟨rfl, rfl⟩ ⟨by dsimp only [rmG_T_TS, rmX1_with]; omega, by dsimp only [rmG_T_TS, rmX1_with]; omega⟩ ⟨Nat.zero_le _, Nat.zero_le _⟩ hl.1 (Nat.le_of_ble_eq_true rfl) dX5_over_75 (fun H locs hP hS => ?_)
      obtain ⟨v16, hv16, hf⟩ := bdP hf
      refine p_lald hx hb hX.1 hP (hD.1 _ _ dX_1141) rfl hv16 dX5_over_78 ?_
      refine lv_lconst hx hb dX5_over_79 lc_0 ?_
      refine W.lcmp hx hb dX5_over_80 ?_
      refine lv_if_ne (tgt := 87) hx hb dX5_over_81 (by decide) (fun c17 => ?_) (fun c17 => ?_)
      · have hf := ifF (mt (lgc_eq _ _).mpr c17) hf
        refine lv_lload hx hb dX5_over_87 (lv_at hl 1 rfl) ?_
        refine lv_aload_n hx hb dX5_over_89 rfl (lv_at hl 3 rfl) ?_
        refine gx_X5_19_1080 (v := (σ.2.1 1081)) E hX hD hP rfl dX5_over_90 ?_
        refine W.lcmp hx hb dX5_over_93 ?_
        have J107 : xo_X5_over_TS_J107 (σ.2.1 1081) = some r_ → ∀ (H : Heap) (locs : List Loc), PIC D clsA G dsc ad σ H → va_S A s.heap H locs → ∀ (ls : Array Slot), lv_has ls 9 [(0, .ref (ad 1080))] → W p l e (rmG_T_TS (d + 1)) s m args below meth c0 H locs 0 0 Q (F0 m 107 ls []) := by
          intro  hf H locs hP hS ls hl
          unfold xo_X5_over_TS_J107 at hf
          refine lv_aload_n hx hb dX5_over_107 rfl (lv_at hl 0 rfl) ?_
          refine gx_X5_19_1080 (v := (σ.2.1 1081)) E hX hD hP rfl dX5_over_108 ?_
          refine lv_goto (tgt := 122) hx hb dX5_over_111 (by decide) ?_
          cases hf
          rw [hQ]; exact g_lret hx hb hr hlk hP hS dX5_over_122
        refine lv_if_eq (tgt := 107) hx hb dX5_over_94 (by decide) (fun c18 => ?_) (fun c18 => ?_)
        · have hf := ifT ((lgc_eq _ _).mp c18) hf
          exact J107  hf H locs hP hS ls (lv_sub hl [3] rfl)
        · have hf := ifF (mt (lgc_eq _ _).mpr c18) hf
          refine lv_lload hx hb dX5_over_97 (lv_at hl 0 rfl) ?_
          refine lv_aload_n hx hb dX5_over_99 rfl (lv_at hl 3 rfl) ?_
          refine gx_X5_19_1080 (v := (σ.2.1 1081)) E hX hD hP rfl dX5_over_100 ?_
          refine W.lcmp hx hb dX5_over_103 ?_
          refine lv_if_ne (tgt := 114) hx hb dX5_over_104 (by decide) (fun c19 => ?_) (fun c19 => ?_)
          · have hf := ifF (mt (lgc_eq _ _).mpr c19) hf
            refine lv_aload_n hx hb dX5_over_114 rfl (lv_at hl 3 rfl) ?_
            refine lv_lload hx hb dX5_over_115 (lv_at hl 1 rfl) ?_
            refine lv_lload hx hb dX5_over_117 (lv_at hl 0 rfl) ?_
            obtain ⟨v20, u21, hf⟩ := bdP hf
            refine cx_X5_132_X7_both_TS E hX hD hP hS hA (kxX7_both_TS l D G hD u21) ⟨rfl, rfl⟩ ⟨by dsimp only [rmG_T_TS, rmX7_both_TS]; omega, by dsimp only [rmG_T_TS, rmX7_both_TS]; omega⟩ ⟨Nat.zero_le _, Nat.zero_le _⟩ hl.1 (Nat.le_of_ble_eq_true rfl) dX5_over_119 (fun H locs hP hS => ?_)
            cases hf
            rw [hQ]; exact g_lret hx hb hr hlk hP hS dX5_over_122
          · have hf := ifT ((lgc_eq _ _).mp c19) hf
            exact J107  hf H locs hP hS ls (lv_sub hl [3] rfl)
      · have hf := ifT ((lgc_eq _ _).mp c17) hf
        refine lv_lload hx hb dX5_over_84 (lv_at hl 1 rfl) ?_
        cases hf
        rw [hQ]; exact g_lret hx hb hr hlk hP hS dX5_over_86
    · have hf := ifT ((lgc_eq _ _).mp c12) hf
      refine lv_lload hx hb dX5_over_61 (lv_at hl 0 rfl) ?_
      cases hf
      rw [hQ]; exact g_lret hx hb hr hlk hP hS dX5_over_63
  · have hf := ifT c1 hf
    refine lv_aload_n hx hb dX5_over_4 rfl (lv_at hl 0 rfl) ?_
    refine lv_iload_n hx hb dX5_over_5 rfl (lv_at hl 2 rfl) ?_
    refine lv_iload_n hx hb dX5_over_6 rfl (lv_at hl 3 rfl) ?_
    obtain ⟨v22, u23, hf⟩ := bdP hf
    refine cx_X5_117_X5_arrived_TS E hX hD hP hS hA (hrec_X5_arrived _ rfl rfl rfl rfl rfl rfl rfl rfl u23) ⟨rfl, rfl⟩ ⟨Nat.le_refl _, by dsimp only [rmG_T_TS]; omega⟩ ⟨Nat.zero_le _, Nat.zero_le _⟩ hl.1 (Nat.le_of_ble_eq_true rfl) dX5_over_7 (fun H locs hP hS => ?_)
    cases hf
    rw [hQ]; exact g_lret hx hb hr hlk hP hS dX5_over_10
/-! X5_shown_TS (IIIII)J -/
abbrev rmX5_shown_TS : Room := rmG_T_TS 40
set_option maxHeartbeats 4000000 in
theorem wkX5_shown_TS {x1 : Int32} {x2 : Int32} {x3 : Int32} {x4 : Int32} {x5 : Int32} {r_ : Int64} {d : Nat} {f_X5_over : Int32 → Int32 → Int32 → Option (Int64)} {f_X5_shown : Int32 → Int32 → Int32 → Int32 → Int32 → Option (Int64)} {f_X5_arrived : Int32 → Int32 → Option (Int64)} (hrec_X5_over : ∀ (σ1 : Sto) {x1 : Int32} {x2 : Int32} {x3 : Int32} {r_ : Int64} (_ : σ1.1 1082 = (σ.1 1082)) (_ : σ1.1 2013 = (σ.1 2013)) (_ : σ1.1 2027 = (σ.1 2027)) (_ : σ1.2.1 1081 = (σ.2.1 1081)) (_ : σ1.2.2.1 1170 = (σ.2.2.1 1170)) (_ : σ1.2.2.1 2043 = (σ.2.2.1 2043)) (_ : σ1.2.2.2.1 1141 = (σ.2.2.2.1 1141)) (_ : σ1.2.2.2.1 1152 = (σ.2.2.2.1 1152)), f_X5_over x1 x2 x3 = some r_ → CtG l D G dsc ad yX5_over (ws_ yX5_over cX5_over 9 (Option.some Jvm.ClassFile.FieldType.long)) (rmG_T_TS d) [.ref (ad 1080), .int x1, .int x2, .int x3] σ1 (some (.long r_)) σ1) (hrec_X5_shown : ∀ (σ1 : Sto) {x1 : Int32} {x2 : Int32} {x3 : Int32} {x4 : Int32} {x5 : Int32} {r_ : Int64} (_ : σ1.1 1082 = (σ.1 1082)) (_ : σ1.1 2013 = (σ.1 2013)) (_ : σ1.1 2027 = (σ.1 2027)) (_ : σ1.2.1 1081 = (σ.2.1 1081)) (_ : σ1.2.2.1 1170 = (σ.2.2.1 1170)) (_ : σ1.2.2.1 2043 = (σ.2.2.1 2043)) (_ : σ1.2.2.2.1 1141 = (σ.2.2.2.1 1141)) (_ : σ1.2.2.2.1 1152 = (σ.2.2.2.1 1152)), f_X5_shown x1 x2 x3 x4 x5 = some r_ → CtG l D G dsc ad yX5_shown (ws_ yX5_shown cX5_shown 6 (Option.some Jvm.ClassFile.FieldType.long)) (rmG_T_TS d) [.ref (ad 1080), .int x1, .int x2, .int x3, .int x4, .int x5] σ1 (some (.long r_)) σ1) (hrec_X5_arrived : ∀ (σ1 : Sto) {x1 : Int32} {x2 : Int32} {r_ : Int64} (_ : σ1.1 1082 = (σ.1 1082)) (_ : σ1.1 2013 = (σ.1 2013)) (_ : σ1.1 2027 = (σ.1 2027)) (_ : σ1.2.1 1081 = (σ.2.1 1081)) (_ : σ1.2.2.1 1170 = (σ.2.2.1 1170)) (_ : σ1.2.2.1 2043 = (σ.2.2.1 2043)) (_ : σ1.2.2.2.1 1141 = (σ.2.2.2.1 1141)) (_ : σ1.2.2.2.1 1152 = (σ.2.2.2.1 1152)), f_X5_arrived x1 x2 = some r_ → CtG l D G dsc ad yX5_arrived (ws_ yX5_arrived cX5_arrived 3 (Option.some Jvm.ClassFile.FieldType.long)) (rmG_T_TS d) [.ref (ad 1080), .int x1, .int x2] σ1 (some (.long r_)) σ1) (E : EN p s m args meth c0 RX5 cX5_shown 6 (Option.some Jvm.ClassFile.FieldType.long)) (hX : KX D G ad A s s.heap) (hD : XD dsc nr nw nu) (hA : ∀ q, PA dsc ad s.heap.size q → A q) (hf : xo_X5_shown_TS_B f_X5_over f_X5_shown f_X5_arrived (σ.1 1082) (σ.1 2013) (σ.1 2027) (σ.2.1 1081) (σ.2.2.1 1170) (σ.2.2.1 2043) (σ.2.2.2.1 1141) (σ.2.2.2.1 1152) x1 x2 x3 x4 x5 = some r_) (hQ : Q = MQ below (va_G1 (some (.long r_)) (fun t => PIC D clsA G dsc ad σ t.heap) A) args s 0 0 A) (hP : PIC D clsA G dsc ad σ H) (hS : va_S A s.heap H locs) (hl : lv_has ls 6 [(0, .ref (ad 1080)), (1, .int x1), (2, .int x2), (3, .int x3), (4, .int x4), (5, .int x5)]) : W p l e (rmG_T_TS (d + 1)) s m args below meth c0 H locs 0 0 Q (F0 m 0 ls []) := by
  obtain ⟨⟨hx, hb, hml, hown, hts⟩, hr, hlk⟩ := id E
  unfold xo_X5_shown_TS_B at hf
  refine lv_aload_n hx hb dX5_shown_0 rfl (lv_at hl 0 rfl) ?_
  refine gx_X5_23_1080 (v := (σ.1 1082)) E hX hD hP rfl dX5_shown_1 ?_
  obtain ⟨v1, hv1, hf⟩ := bdP hf
  refine p_nn0 (ckz_some hv1) ?_
  refine gx_X5_46_1050 E hX hD hP dX5_shown_4 ?_
  refine lv_iload hx hb dX5_shown_7 (lv_at hl 5 rfl) ?_
  refine lv_iload_n hx hb dX5_shown_9 rfl (lv_at hl 2 rfl) ?_
  refine lv_iload_n hx hb dX5_shown_10 rfl (lv_at hl 3 rfl) ?_
  obtain ⟨v2, u3, hf⟩ := bdP hf
  refine cx_X5_129_X1_with E hX hD hP hS hA (kxX1_with l D G hD rfl u3) ⟨rfl, rfl⟩ ⟨by dsimp only [rmG_T_TS, rmX1_with]; omega, by dsimp only [rmG_T_TS, rmX1_with]; omega⟩ ⟨Nat.zero_le _, Nat.zero_le _⟩ hl.1 (Nat.le_of_ble_eq_true rfl) dX5_shown_11 (fun H locs hP hS => ?_)
  obtain ⟨v4, hv4, hf⟩ := bdP hf
  refine p_lald hx hb hX.1 hP (hD.1 _ _ dX_1141) rfl hv4 dX5_shown_14 ?_
  refine lv_lconst hx hb dX5_shown_15 lc_0 ?_
  refine W.lcmp hx hb dX5_shown_16 ?_
  refine lv_if_ne (tgt := 27) hx hb dX5_shown_17 (by decide) (fun c5 => ?_) (fun c5 => ?_)
  · have hf := ifF (mt (lgc_eq _ _).mpr c5) hf
    refine lv_aload_n hx hb dX5_shown_27 rfl (lv_at hl 0 rfl) ?_
    refine lv_iload_n hx hb dX5_shown_28 rfl (lv_at hl 1 rfl) ?_
    refine lv_iconst hx hb dX5_shown_29 ic_1 ?_
    refine lv_iload_n hx hb dX5_shown_30 rfl (lv_at hl 2 rfl) ?_
    refine lv_ishl hx hb dX5_shown_31 ?_
    refine lv_iconst hx hb dX5_shown_32 ic_m1 ?_
    refine lv_ixor hx hb dX5_shown_33 ?_
    refine lv_iand hx hb dX5_shown_34 ?_
    refine lv_iload hx hb dX5_shown_35 (lv_at hl 4 rfl) ?_
    refine lv_iload hx hb dX5_shown_37 (lv_at hl 5 rfl) ?_
    refine lv_iload_n hx hb dX5_shown_39 rfl (lv_at hl 2 rfl) ?_
    refine lv_iload_n hx hb dX5_shown_40 rfl (lv_at hl 3 rfl) ?_
    obtain ⟨v6, u7, hf⟩ := bdP hf
    refine cx_X5_129_X1_with E hX hD hP hS hA (kxX1_with l D G hD rfl u7) ⟨rfl, rfl⟩ ⟨by dsimp only [rmG_T_TS, rmX1_with]; omega, by dsimp only [rmG_T_TS, rmX1_with]; omega⟩ ⟨Nat.zero_le _, Nat.zero_le _⟩ hl.1 (Nat.le_of_ble_eq_true rfl) dX5_shown_41 (fun H locs hP hS => ?_)
    obtain ⟨v8, u9, hf⟩ := bdP hf
    refine cx_X5_114_X5_over_TS E hX hD hP hS hA (hrec_X5_over _ rfl rfl rfl rfl rfl rfl rfl rfl u9) ⟨rfl, rfl⟩ ⟨Nat.le_refl _, by dsimp only [rmG_T_TS]; omega⟩ ⟨Nat.zero_le _, Nat.zero_le _⟩ hl.1 (Nat.le_of_ble_eq_true rfl) dX5_shown_44 (fun H locs hP hS => ?_)
    cases hf
    rw [hQ]; exact g_lret hx hb hr hlk hP hS dX5_shown_47
  · have hf := ifT ((lgc_eq _ _).mp c5) hf
    refine lv_aload_n hx hb dX5_shown_20 rfl (lv_at hl 0 rfl) ?_
    refine gx_X5_19_1080 (v := (σ.2.1 1081)) E hX hD hP rfl dX5_shown_21 ?_
    refine lv_goto (tgt := 47) hx hb dX5_shown_24 (by decide) ?_
    cases hf
    rw [hQ]; exact g_lret hx hb hr hlk hP hS dX5_shown_47
/-! X5_arrived_TS (II)J -/
abbrev rmX5_arrived_TS : Room := rmG_T_TS 40
set_option maxHeartbeats 4000000 in
theorem wkX5_arrived_TS {x1 : Int32} {x2 : Int32} {r_ : Int64} {d : Nat} {f_X5_over : Int32 → Int32 → Int32 → Option (Int64)} {f_X5_shown : Int32 → Int32 → Int32 → Int32 → Int32 → Option (Int64)} {f_X5_arrived : Int32 → Int32 → Option (Int64)} (hrec_X5_over : ∀ (σ1 : Sto) {x1 : Int32} {x2 : Int32} {x3 : Int32} {r_ : Int64} (_ : σ1.1 1082 = (σ.1 1082)) (_ : σ1.1 2013 = (σ.1 2013)) (_ : σ1.1 2027 = (σ.1 2027)) (_ : σ1.2.1 1081 = (σ.2.1 1081)) (_ : σ1.2.2.1 1170 = (σ.2.2.1 1170)) (_ : σ1.2.2.1 2043 = (σ.2.2.1 2043)) (_ : σ1.2.2.2.1 1141 = (σ.2.2.2.1 1141)) (_ : σ1.2.2.2.1 1152 = (σ.2.2.2.1 1152)), f_X5_over x1 x2 x3 = some r_ → CtG l D G dsc ad yX5_over (ws_ yX5_over cX5_over 9 (Option.some Jvm.ClassFile.FieldType.long)) (rmG_T_TS d) [.ref (ad 1080), .int x1, .int x2, .int x3] σ1 (some (.long r_)) σ1) (hrec_X5_shown : ∀ (σ1 : Sto) {x1 : Int32} {x2 : Int32} {x3 : Int32} {x4 : Int32} {x5 : Int32} {r_ : Int64} (_ : σ1.1 1082 = (σ.1 1082)) (_ : σ1.1 2013 = (σ.1 2013)) (_ : σ1.1 2027 = (σ.1 2027)) (_ : σ1.2.1 1081 = (σ.2.1 1081)) (_ : σ1.2.2.1 1170 = (σ.2.2.1 1170)) (_ : σ1.2.2.1 2043 = (σ.2.2.1 2043)) (_ : σ1.2.2.2.1 1141 = (σ.2.2.2.1 1141)) (_ : σ1.2.2.2.1 1152 = (σ.2.2.2.1 1152)), f_X5_shown x1 x2 x3 x4 x5 = some r_ → CtG l D G dsc ad yX5_shown (ws_ yX5_shown cX5_shown 6 (Option.some Jvm.ClassFile.FieldType.long)) (rmG_T_TS d) [.ref (ad 1080), .int x1, .int x2, .int x3, .int x4, .int x5] σ1 (some (.long r_)) σ1) (hrec_X5_arrived : ∀ (σ1 : Sto) {x1 : Int32} {x2 : Int32} {r_ : Int64} (_ : σ1.1 1082 = (σ.1 1082)) (_ : σ1.1 2013 = (σ.1 2013)) (_ : σ1.1 2027 = (σ.1 2027)) (_ : σ1.2.1 1081 = (σ.2.1 1081)) (_ : σ1.2.2.1 1170 = (σ.2.2.1 1170)) (_ : σ1.2.2.1 2043 = (σ.2.2.1 2043)) (_ : σ1.2.2.2.1 1141 = (σ.2.2.2.1 1141)) (_ : σ1.2.2.2.1 1152 = (σ.2.2.2.1 1152)), f_X5_arrived x1 x2 = some r_ → CtG l D G dsc ad yX5_arrived (ws_ yX5_arrived cX5_arrived 3 (Option.some Jvm.ClassFile.FieldType.long)) (rmG_T_TS d) [.ref (ad 1080), .int x1, .int x2] σ1 (some (.long r_)) σ1) (E : EN p s m args meth c0 RX5 cX5_arrived 3 (Option.some Jvm.ClassFile.FieldType.long)) (hX : KX D G ad A s s.heap) (hD : XD dsc nr nw nu) (hA : ∀ q, PA dsc ad s.heap.size q → A q) (hf : xo_X5_arrived_TS_B f_X5_over f_X5_shown f_X5_arrived (σ.1 1082) (σ.1 2013) (σ.1 2027) (σ.2.1 1081) (σ.2.2.1 1170) (σ.2.2.1 2043) (σ.2.2.2.1 1141) (σ.2.2.2.1 1152) x1 x2 = some r_) (hQ : Q = MQ below (va_G1 (some (.long r_)) (fun t => PIC D clsA G dsc ad σ t.heap) A) args s 0 0 A) (hP : PIC D clsA G dsc ad σ H) (hS : va_S A s.heap H locs) (hl : lv_has ls 3 [(0, .ref (ad 1080)), (1, .int x1), (2, .int x2)]) : W p l e (rmG_T_TS (d + 1)) s m args below meth c0 H locs 0 0 Q (F0 m 0 ls []) := by
  obtain ⟨⟨hx, hb, hml, hown, hts⟩, hr, hlk⟩ := id E
  unfold xo_X5_arrived_TS_B at hf
  refine lv_iload_n hx hb dX5_arrived_0 rfl (lv_at hl 1 rfl) ?_
  refine lv_aload_n hx hb dX5_arrived_1 rfl (lv_at hl 0 rfl) ?_
  refine gx_X5_3_1080 E hX hD hP dX5_arrived_2 ?_
  refine gx_X5_27_1000 E hX hD hP dX5_arrived_5 ?_
  refine gx_X5_67_2000 (v := (σ.1 2013)) E hX hD hP rfl dX5_arrived_8 ?_
  refine lv_icmp_ne (tgt := 22) hx hb dX5_arrived_11 (by decide) (fun c1 => ?_) (fun c1 => ?_)
  · have hf := ifF c1 hf
    refine lv_aload_n hx hb dX5_arrived_22 rfl (lv_at hl 0 rfl) ?_
    refine gx_X5_3_1080 E hX hD hP dX5_arrived_23 ?_
    refine gx_X5_27_1000 E hX hD hP dX5_arrived_26 ?_
    refine lv_iload_n hx hb dX5_arrived_29 rfl (lv_at hl 1 rfl) ?_
    refine lv_iload_n hx hb dX5_arrived_30 rfl (lv_at hl 2 rfl) ?_
    obtain ⟨v2, u3, hf⟩ := bdP hf
    refine cx_X5_74_X3_unseen E hX hD hP hS hA (kxX3_unseen l D G hD rfl rfl rfl u3) ⟨rfl, rfl⟩ ⟨by dsimp only [rmG_T_TS, rmX3_unseen]; omega, by dsimp only [rmG_T_TS, rmX3_unseen]; omega⟩ ⟨Nat.zero_le _, Nat.zero_le _⟩ hl.1 (Nat.le_of_ble_eq_true rfl) dX5_arrived_31 (fun H locs hP hS => ?_)
    refine lv_if_ne (tgt := 46) hx hb dX5_arrived_34 (by decide) (fun c4 => ?_) (fun c4 => ?_)
    · have hf := ifF c4 hf
      refine lv_aload_n hx hb dX5_arrived_46 rfl (lv_at hl 0 rfl) ?_
      refine lv_aload_n hx hb dX5_arrived_47 rfl (lv_at hl 0 rfl) ?_
      refine gx_X5_3_1080 E hX hD hP dX5_arrived_48 ?_
      refine gx_X5_27_1000 E hX hD hP dX5_arrived_51 ?_
      refine lv_iload_n hx hb dX5_arrived_54 rfl (lv_at hl 1 rfl) ?_
      refine lv_iload_n hx hb dX5_arrived_55 rfl (lv_at hl 2 rfl) ?_
      obtain ⟨v5, u6, hf⟩ := bdP hf
      refine cx_X5_74_X3_unseen E hX hD hP hS hA (kxX3_unseen l D G hD rfl rfl rfl u6) ⟨rfl, rfl⟩ ⟨by dsimp only [rmG_T_TS, rmX3_unseen]; omega, by dsimp only [rmG_T_TS, rmX3_unseen]; omega⟩ ⟨Nat.zero_le _, Nat.zero_le _⟩ hl.1 (Nat.le_of_ble_eq_true rfl) dX5_arrived_56 (fun H locs hP hS => ?_)
      refine lv_iload_n hx hb dX5_arrived_59 rfl (lv_at hl 1 rfl) ?_
      refine lv_iload_n hx hb dX5_arrived_60 rfl (lv_at hl 2 rfl) ?_
      obtain ⟨v7, u8, hf⟩ := bdP hf
      refine cx_X5_114_X5_over_TS E hX hD hP hS hA (hrec_X5_over _ rfl rfl rfl rfl rfl rfl rfl rfl u8) ⟨rfl, rfl⟩ ⟨Nat.le_refl _, by dsimp only [rmG_T_TS]; omega⟩ ⟨Nat.zero_le _, Nat.zero_le _⟩ hl.1 (Nat.le_of_ble_eq_true rfl) dX5_arrived_61 (fun H locs hP hS => ?_)
      cases hf
      rw [hQ]; exact g_lret hx hb hr hlk hP hS dX5_arrived_64
    · have hf := ifT c4 hf
      refine lv_aload_n hx hb dX5_arrived_37 rfl (lv_at hl 0 rfl) ?_
      refine lv_iload_n hx hb dX5_arrived_38 rfl (lv_at hl 1 rfl) ?_
      refine lv_iload_n hx hb dX5_arrived_39 rfl (lv_at hl 2 rfl) ?_
      obtain ⟨v9, u10, hf⟩ := bdP hf
      refine cx_X5_81_X5_value_TS E hX hD hP hS hA (kxX5_value_TS l D G hD rfl u10) ⟨rfl, rfl⟩ ⟨by dsimp only [rmG_T_TS, rmX5_value_TS]; omega, by dsimp only [rmG_T_TS, rmX5_value_TS]; omega⟩ ⟨Nat.zero_le _, Nat.zero_le _⟩ hl.1 (Nat.le_of_ble_eq_true rfl) dX5_arrived_40 (fun H locs hP hS => ?_)
      refine lv_goto (tgt := 64) hx hb dX5_arrived_43 (by decide) ?_
      cases hf
      rw [hQ]; exact g_lret hx hb hr hlk hP hS dX5_arrived_64
  · have hf := ifT c1 hf
    refine lv_aload_n hx hb dX5_arrived_14 rfl (lv_at hl 0 rfl) ?_
    refine lv_iload_n hx hb dX5_arrived_15 rfl (lv_at hl 2 rfl) ?_
    obtain ⟨v11, u12, hf⟩ := bdP hf
    refine cx_X5_70_X6_end_TS E hX hD hP hS hA (kxX6_end_TS l D G hD u12) ⟨rfl, rfl⟩ ⟨by dsimp only [rmG_T_TS, rmX6_end_TS]; omega, by dsimp only [rmG_T_TS, rmX6_end_TS]; omega⟩ ⟨Nat.zero_le _, Nat.zero_le _⟩ hl.1 (Nat.le_of_ble_eq_true rfl) dX5_arrived_16 (fun H locs hP hS => ?_)
    refine lv_goto (tgt := 64) hx hb dX5_arrived_19 (by decide) ?_
    cases hf
    rw [hQ]; exact g_lret hx hb hr hlk hP hS dX5_arrived_64
theorem kg_T_TS (l : Launch) (D : va_G) (G : Nat → ClassId) {dsc : Nat → Option Dsc} {ad : Nat → Nat} {nr nw nu : Nat} (hD : XD dsc nr nw nu) {z_TS_by : Int32} {z_L_to : Int32} {z_Ld_size : Int32} {z_TS_none : Int64} {a_UNIT : Nat → Int32} {a_L_seen : Nat → Int32} {a_W_likely : Nat → Int64} {a_TS_value : Nat → Int64} : ∀ d : Nat, (∀ (σ1 : Sto) {x1 : Int32} {x2 : Int32} {x3 : Int32} {r_ : Int64} (_ : σ1.1 1082 = z_TS_by) (_ : σ1.1 2013 = z_L_to) (_ : σ1.1 2027 = z_Ld_size) (_ : σ1.2.1 1081 = z_TS_none) (_ : σ1.2.2.1 1170 = a_UNIT) (_ : σ1.2.2.1 2043 = a_L_seen) (_ : σ1.2.2.2.1 1141 = a_W_likely) (_ : σ1.2.2.2.1 1152 = a_TS_value), (xg_T_TS z_TS_by z_L_to z_Ld_size z_TS_none a_UNIT a_L_seen a_W_likely a_TS_value d).1 x1 x2 x3 = some r_ → CtG l D G dsc ad yX5_over (ws_ yX5_over cX5_over 9 (Option.some Jvm.ClassFile.FieldType.long)) (rmG_T_TS d) [.ref (ad 1080), .int x1, .int x2, .int x3] σ1 (some (.long r_)) σ1) ∧ (∀ (σ1 : Sto) {x1 : Int32} {x2 : Int32} {x3 : Int32} {x4 : Int32} {x5 : Int32} {r_ : Int64} (_ : σ1.1 1082 = z_TS_by) (_ : σ1.1 2013 = z_L_to) (_ : σ1.1 2027 = z_Ld_size) (_ : σ1.2.1 1081 = z_TS_none) (_ : σ1.2.2.1 1170 = a_UNIT) (_ : σ1.2.2.1 2043 = a_L_seen) (_ : σ1.2.2.2.1 1141 = a_W_likely) (_ : σ1.2.2.2.1 1152 = a_TS_value), (xg_T_TS z_TS_by z_L_to z_Ld_size z_TS_none a_UNIT a_L_seen a_W_likely a_TS_value d).2.1 x1 x2 x3 x4 x5 = some r_ → CtG l D G dsc ad yX5_shown (ws_ yX5_shown cX5_shown 6 (Option.some Jvm.ClassFile.FieldType.long)) (rmG_T_TS d) [.ref (ad 1080), .int x1, .int x2, .int x3, .int x4, .int x5] σ1 (some (.long r_)) σ1) ∧ (∀ (σ1 : Sto) {x1 : Int32} {x2 : Int32} {r_ : Int64} (_ : σ1.1 1082 = z_TS_by) (_ : σ1.1 2013 = z_L_to) (_ : σ1.1 2027 = z_Ld_size) (_ : σ1.2.1 1081 = z_TS_none) (_ : σ1.2.2.1 1170 = a_UNIT) (_ : σ1.2.2.1 2043 = a_L_seen) (_ : σ1.2.2.2.1 1141 = a_W_likely) (_ : σ1.2.2.2.1 1152 = a_TS_value), (xg_T_TS z_TS_by z_L_to z_Ld_size z_TS_none a_UNIT a_L_seen a_W_likely a_TS_value d).2.2 x1 x2 = some r_ → CtG l D G dsc ad yX5_arrived (ws_ yX5_arrived cX5_arrived 3 (Option.some Jvm.ClassFile.FieldType.long)) (rmG_T_TS d) [.ref (ad 1080), .int x1, .int x2] σ1 (some (.long r_)) σ1) := by
  intro d
  induction d with
  | zero =>
    refine ⟨?_, ?_, ?_⟩ <;> (intros; rename_i hu; simp [xg_T_TS] at hu)
  | succ d ih =>
    refine ⟨?_, ?_, ?_⟩
    · intro σ x1 x2 x3 r_ e_zI1082 e_zI2013 e_zI2027 e_zL1081 e_aI1170 e_aI2043 e_aL1141 e_aL1152 hu
      subst e_zI1082
      subst e_zI2013
      subst e_zI2027
      subst e_zL1081
      subst e_aI1170
      subst e_aI2043
      subst e_aL1141
      subst e_aL1152
      exact p_ctG (by decide +kernel) (Nat.le_of_ble_eq_true rfl) (fun p e s m below meth c0 ls A E hP hX hA hS hl => wkX5_over_TS ih.1 ih.2.1 ih.2.2 E hX hD hA hu rfl hP hS hl)
    · intro σ x1 x2 x3 x4 x5 r_ e_zI1082 e_zI2013 e_zI2027 e_zL1081 e_aI1170 e_aI2043 e_aL1141 e_aL1152 hu
      subst e_zI1082
      subst e_zI2013
      subst e_zI2027
      subst e_zL1081
      subst e_aI1170
      subst e_aI2043
      subst e_aL1141
      subst e_aL1152
      exact p_ctG (by decide +kernel) (Nat.le_of_ble_eq_true rfl) (fun p e s m below meth c0 ls A E hP hX hA hS hl => wkX5_shown_TS ih.1 ih.2.1 ih.2.2 E hX hD hA hu rfl hP hS hl)
    · intro σ x1 x2 r_ e_zI1082 e_zI2013 e_zI2027 e_zL1081 e_aI1170 e_aI2043 e_aL1141 e_aL1152 hu
      subst e_zI1082
      subst e_zI2013
      subst e_zI2027
      subst e_zL1081
      subst e_aI1170
      subst e_aI2043
      subst e_aL1141
      subst e_aL1152
      exact p_ctG (by decide +kernel) (Nat.le_of_ble_eq_true rfl) (fun p e s m below meth c0 ls A E hP hX hA hS hl => wkX5_arrived_TS ih.1 ih.2.1 ih.2.2 E hX hD hA hu rfl hP hS hl)
theorem kxX5_over_TS (l : Launch) (D : va_G) (G : Nat → ClassId) {dsc : Nat → Option Dsc} {ad : Nat → Nat} {σ : Sto} {nr nw nu : Nat} (hD : XD dsc nr nw nu) {x1 : Int32} {x2 : Int32} {x3 : Int32} {r_ : Int64} {z_TS_by : Int32} (e_zI1082 : σ.1 1082 = z_TS_by) {z_L_to : Int32} (e_zI2013 : σ.1 2013 = z_L_to) {z_Ld_size : Int32} (e_zI2027 : σ.1 2027 = z_Ld_size) {z_TS_none : Int64} (e_zL1081 : σ.2.1 1081 = z_TS_none) {a_UNIT : Nat → Int32} (e_aI1170 : σ.2.2.1 1170 = a_UNIT) {a_L_seen : Nat → Int32} (e_aI2043 : σ.2.2.1 2043 = a_L_seen) {a_W_likely : Nat → Int64} (e_aL1141 : σ.2.2.2.1 1141 = a_W_likely) {a_TS_value : Nat → Int64} (e_aL1152 : σ.2.2.2.1 1152 = a_TS_value) (hf : (xg_T_TS z_TS_by z_L_to z_Ld_size z_TS_none a_UNIT a_L_seen a_W_likely a_TS_value 40).1 x1 x2 x3 = some r_) : CtG l D G dsc ad yX5_over (ws_ yX5_over cX5_over 9 (Option.some Jvm.ClassFile.FieldType.long)) rmX5_over_TS [.ref (ad 1080), .int x1, .int x2, .int x3] σ (some (.long r_)) σ :=
  (kg_T_TS l D G hD 40).1 σ e_zI1082 e_zI2013 e_zI2027 e_zL1081 e_aI1170 e_aI2043 e_aL1141 e_aL1152 hf
theorem kxX5_shown_TS (l : Launch) (D : va_G) (G : Nat → ClassId) {dsc : Nat → Option Dsc} {ad : Nat → Nat} {σ : Sto} {nr nw nu : Nat} (hD : XD dsc nr nw nu) {x1 : Int32} {x2 : Int32} {x3 : Int32} {x4 : Int32} {x5 : Int32} {r_ : Int64} {z_TS_by : Int32} (e_zI1082 : σ.1 1082 = z_TS_by) {z_L_to : Int32} (e_zI2013 : σ.1 2013 = z_L_to) {z_Ld_size : Int32} (e_zI2027 : σ.1 2027 = z_Ld_size) {z_TS_none : Int64} (e_zL1081 : σ.2.1 1081 = z_TS_none) {a_UNIT : Nat → Int32} (e_aI1170 : σ.2.2.1 1170 = a_UNIT) {a_L_seen : Nat → Int32} (e_aI2043 : σ.2.2.1 2043 = a_L_seen) {a_W_likely : Nat → Int64} (e_aL1141 : σ.2.2.2.1 1141 = a_W_likely) {a_TS_value : Nat → Int64} (e_aL1152 : σ.2.2.2.1 1152 = a_TS_value) (hf : (xg_T_TS z_TS_by z_L_to z_Ld_size z_TS_none a_UNIT a_L_seen a_W_likely a_TS_value 40).2.1 x1 x2 x3 x4 x5 = some r_) : CtG l D G dsc ad yX5_shown (ws_ yX5_shown cX5_shown 6 (Option.some Jvm.ClassFile.FieldType.long)) rmX5_shown_TS [.ref (ad 1080), .int x1, .int x2, .int x3, .int x4, .int x5] σ (some (.long r_)) σ :=
  (kg_T_TS l D G hD 40).2.1 σ e_zI1082 e_zI2013 e_zI2027 e_zL1081 e_aI1170 e_aI2043 e_aL1141 e_aL1152 hf
theorem kxX5_arrived_TS (l : Launch) (D : va_G) (G : Nat → ClassId) {dsc : Nat → Option Dsc} {ad : Nat → Nat} {σ : Sto} {nr nw nu : Nat} (hD : XD dsc nr nw nu) {x1 : Int32} {x2 : Int32} {r_ : Int64} {z_TS_by : Int32} (e_zI1082 : σ.1 1082 = z_TS_by) {z_L_to : Int32} (e_zI2013 : σ.1 2013 = z_L_to) {z_Ld_size : Int32} (e_zI2027 : σ.1 2027 = z_Ld_size) {z_TS_none : Int64} (e_zL1081 : σ.2.1 1081 = z_TS_none) {a_UNIT : Nat → Int32} (e_aI1170 : σ.2.2.1 1170 = a_UNIT) {a_L_seen : Nat → Int32} (e_aI2043 : σ.2.2.1 2043 = a_L_seen) {a_W_likely : Nat → Int64} (e_aL1141 : σ.2.2.2.1 1141 = a_W_likely) {a_TS_value : Nat → Int64} (e_aL1152 : σ.2.2.2.1 1152 = a_TS_value) (hf : (xg_T_TS z_TS_by z_L_to z_Ld_size z_TS_none a_UNIT a_L_seen a_W_likely a_TS_value 40).2.2 x1 x2 = some r_) : CtG l D G dsc ad yX5_arrived (ws_ yX5_arrived cX5_arrived 3 (Option.some Jvm.ClassFile.FieldType.long)) rmX5_arrived_TS [.ref (ad 1080), .int x1, .int x2] σ (some (.long r_)) σ :=
  (kg_T_TS l D G hD 40).2.2 σ e_zI1082 e_zI2013 e_zI2027 e_zL1081 e_aI1170 e_aI2043 e_aL1141 e_aL1152 hf
/-! X5_arriving_TS (II)J -/
abbrev rmX5_arriving_TS : Room := { frames := 43, cells := 0, slots := 0, locals := 1195 }
set_option maxHeartbeats 4000000 in
theorem wkX5_arriving_TS {x1 : Int32} {x2 : Int32} {r_ : Int64} (E : EN p s m args meth c0 RX5 cX5_arriving 3 (Option.some Jvm.ClassFile.FieldType.long)) (hX : KX D G ad A s s.heap) (hD : XD dsc nr nw nu) (hA : ∀ q, PA dsc ad s.heap.size q → A q) (hf : xo_X5_arriving_TS (σ.1 1082) (σ.1 2013) (σ.1 2027) (σ.2.1 1081) (σ.2.2.1 1170) (σ.2.2.1 2043) (σ.2.2.2.1 1141) (σ.2.2.2.1 1152) x1 x2 = some r_) (hQ : Q = MQ below (va_G1 (some (.long r_)) (fun t => PIC D clsA G dsc ad σ t.heap) A) args s 0 0 A) (hP : PIC D clsA G dsc ad σ H) (hS : va_S A s.heap H locs) (hl : lv_has ls 3 [(0, .ref (ad 1080)), (1, .int x1), (2, .int x2)]) : W p l e rmX5_arriving_TS s m args below meth c0 H locs 0 0 Q (F0 m 0 ls []) := by
  obtain ⟨⟨hx, hb, hml, hown, hts⟩, hr, hlk⟩ := id E
  unfold xo_X5_arriving_TS at hf
  refine lv_iload_n hx hb dX5_arriving_0 rfl (lv_at hl 1 rfl) ?_
  refine lv_aload_n hx hb dX5_arriving_1 rfl (lv_at hl 0 rfl) ?_
  refine gx_X5_3_1080 E hX hD hP dX5_arriving_2 ?_
  refine gx_X5_27_1000 E hX hD hP dX5_arriving_5 ?_
  refine gx_X5_67_2000 (v := (σ.1 2013)) E hX hD hP rfl dX5_arriving_8 ?_
  refine lv_icmp_ne (tgt := 22) hx hb dX5_arriving_11 (by decide) (fun c1 => ?_) (fun c1 => ?_)
  · have hf := ifF c1 hf
    refine lv_aload_n hx hb dX5_arriving_22 rfl (lv_at hl 0 rfl) ?_
    refine lv_aload_n hx hb dX5_arriving_23 rfl (lv_at hl 0 rfl) ?_
    refine gx_X5_3_1080 E hX hD hP dX5_arriving_24 ?_
    refine gx_X5_27_1000 E hX hD hP dX5_arriving_27 ?_
    refine lv_iload_n hx hb dX5_arriving_30 rfl (lv_at hl 1 rfl) ?_
    refine lv_iload_n hx hb dX5_arriving_31 rfl (lv_at hl 2 rfl) ?_
    obtain ⟨v2, u3, hf⟩ := bdP hf
    refine cx_X5_74_X3_unseen E hX hD hP hS hA (kxX3_unseen l D G hD rfl rfl rfl u3) ⟨rfl, rfl⟩ ⟨Nat.le_of_ble_eq_true rfl, Nat.le_of_ble_eq_true rfl⟩ ⟨Nat.zero_le _, Nat.zero_le _⟩ hl.1 (Nat.le_of_ble_eq_true rfl) dX5_arriving_32 (fun H locs hP hS => ?_)
    refine lv_iload_n hx hb dX5_arriving_35 rfl (lv_at hl 1 rfl) ?_
    refine lv_iload_n hx hb dX5_arriving_36 rfl (lv_at hl 2 rfl) ?_
    obtain ⟨v4, u5, hf⟩ := bdP hf
    refine cx_X5_114_X5_over_TS E hX hD hP hS hA (kxX5_over_TS l D G hD rfl rfl rfl rfl rfl rfl rfl rfl u5) ⟨rfl, rfl⟩ ⟨Nat.le_of_ble_eq_true rfl, Nat.le_of_ble_eq_true rfl⟩ ⟨Nat.zero_le _, Nat.zero_le _⟩ hl.1 (Nat.le_of_ble_eq_true rfl) dX5_arriving_37 (fun H locs hP hS => ?_)
    cases hf
    rw [hQ]; exact g_lret hx hb hr hlk hP hS dX5_arriving_40
  · have hf := ifT c1 hf
    refine lv_aload_n hx hb dX5_arriving_14 rfl (lv_at hl 0 rfl) ?_
    refine lv_iload_n hx hb dX5_arriving_15 rfl (lv_at hl 2 rfl) ?_
    obtain ⟨v6, u7, hf⟩ := bdP hf
    refine cx_X5_70_X6_end_TS E hX hD hP hS hA (kxX6_end_TS l D G hD u7) ⟨rfl, rfl⟩ ⟨Nat.le_of_ble_eq_true rfl, Nat.le_of_ble_eq_true rfl⟩ ⟨Nat.zero_le _, Nat.zero_le _⟩ hl.1 (Nat.le_of_ble_eq_true rfl) dX5_arriving_16 (fun H locs hP hS => ?_)
    refine lv_goto (tgt := 40) hx hb dX5_arriving_19 (by decide) ?_
    cases hf
    rw [hQ]; exact g_lret hx hb hr hlk hP hS dX5_arriving_40
theorem kxX5_arriving_TS (l : Launch) (D : va_G) (G : Nat → ClassId) {dsc : Nat → Option Dsc} {ad : Nat → Nat} {σ : Sto} {nr nw nu : Nat} (hD : XD dsc nr nw nu) {x1 : Int32} {x2 : Int32} {r_ : Int64} {z_TS_by : Int32} (e_zI1082 : σ.1 1082 = z_TS_by) {z_L_to : Int32} (e_zI2013 : σ.1 2013 = z_L_to) {z_Ld_size : Int32} (e_zI2027 : σ.1 2027 = z_Ld_size) {z_TS_none : Int64} (e_zL1081 : σ.2.1 1081 = z_TS_none) {a_UNIT : Nat → Int32} (e_aI1170 : σ.2.2.1 1170 = a_UNIT) {a_L_seen : Nat → Int32} (e_aI2043 : σ.2.2.1 2043 = a_L_seen) {a_W_likely : Nat → Int64} (e_aL1141 : σ.2.2.2.1 1141 = a_W_likely) {a_TS_value : Nat → Int64} (e_aL1152 : σ.2.2.2.1 1152 = a_TS_value) (hf : xo_X5_arriving_TS z_TS_by z_L_to z_Ld_size z_TS_none a_UNIT a_L_seen a_W_likely a_TS_value x1 x2 = some r_) : CtG l D G dsc ad yX5_arriving (ws_ yX5_arriving cX5_arriving 3 (Option.some Jvm.ClassFile.FieldType.long)) rmX5_arriving_TS [.ref (ad 1080), .int x1, .int x2] σ (some (.long r_)) σ := by
  subst e_zI1082
  subst e_zI2013
  subst e_zI2027
  subst e_zL1081
  subst e_aI1170
  subst e_aI2043
  subst e_aL1141
  subst e_aL1152
  exact p_ctG (by decide +kernel) (Nat.le_of_ble_eq_true rfl) (fun p e s m below meth c0 ls A E hP hX hA hS hl => wkX5_arriving_TS E hX hD hA hf rfl hP hS hl)
/-! X7_ahead_TS (JII)J -/
abbrev rmX7_ahead_TS : Room := { frames := 0, cells := 0, slots := 0, locals := 0 }
set_option maxHeartbeats 4000000 in
theorem wkX7_ahead_TS {x1 : Int64} {x3 : Int32} {x4 : Int32} {r_ : Int64} (E : EN p s m args meth c0 RX7 cX7_ahead 5 (Option.some Jvm.ClassFile.FieldType.long)) (hX : KX D G ad A s s.heap) (hD : XD dsc nr nw nu) (hA : ∀ q, PA dsc ad s.heap.size q → A q) (hf : xo_X7_ahead_TS x1 x3 x4 = some r_) (hQ : Q = MQ below (va_G1 (some (.long r_)) (fun t => PIC D clsA G dsc ad σ t.heap) A) args s 0 0 A) (hP : PIC D clsA G dsc ad σ H) (hS : va_S A s.heap H locs) (hl : lv_has ls 5 [(0, .ref (ad 1080)), (1, .long x1), (3, .int x3), (4, .int x4)]) : W p l e rmX7_ahead_TS s m args below meth c0 H locs 0 0 Q (F0 m 0 ls []) := by
  obtain ⟨⟨hx, hb, hml, hown, hts⟩, hr, hlk⟩ := id E
  unfold xo_X7_ahead_TS at hf
  refine lv_lload_n hx hb dX7_ahead_0 rfl (lv_at hl 1 rfl) ?_
  refine lv_iload_n hx hb dX7_ahead_1 rfl (lv_at hl 2 rfl) ?_
  refine lv_i2l hx hb dX7_ahead_2 rfl ?_
  refine lv_ladd hx hb dX7_ahead_3 ?_
  cases hf
  rw [hQ]; exact g_lret hx hb hr hlk hP hS dX7_ahead_4
theorem kxX7_ahead_TS (l : Launch) (D : va_G) (G : Nat → ClassId) {dsc : Nat → Option Dsc} {ad : Nat → Nat} {σ : Sto} {nr nw nu : Nat} (hD : XD dsc nr nw nu) {x1 : Int64} {x3 : Int32} {x4 : Int32} {r_ : Int64} (hf : xo_X7_ahead_TS x1 x3 x4 = some r_) : CtG l D G dsc ad yX7_ahead (ws_ yX7_ahead cX7_ahead 5 (Option.some Jvm.ClassFile.FieldType.long)) rmX7_ahead_TS [.ref (ad 1080), .long x1, .int x3, .int x4] σ (some (.long r_)) σ := by
  exact p_ctG (by decide +kernel) (Nat.le_of_ble_eq_true rfl) (fun p e s m below meth c0 ls A E hP hX hA hS hl => wkX7_ahead_TS E hX hD hA hf rfl hP hS hl)
theorem cx_X5_107_X5_arriving_TS {rm : Room} {σ1 : Sto} {x1 : Int32} {x2 : Int32} {r : Int64} (E : EN p s m args meth c0 RX5 cc nL ret) (hX : KX D G ad A s s.heap) (hD : XD dsc nr nw nu) (hP : PIC D clsA G dsc ad σ H) (hS : va_S A s.heap H locs) (hA : ∀ q, PA dsc ad s.heap.size q → A q) (hM : CtG l D G dsc ad yX5_arriving (ws_ yX5_arriving cX5_arriving 3 (Option.some Jvm.ClassFile.FieldType.long)) rm [.ref (ad 1080), .int x1, .int x2] σ (some (.long r)) σ1) (hz : rm.cells = 0 ∧ rm.slots = 0) (hR : rm.frames + 1 ≤ R.frames ∧ 8 + (3 + 11) + rm.locals ≤ R.locals) (hcs : cells ≤ R.cells ∧ slots ≤ R.slots) (hsz : ls.size = nL) (hW : (rest.map fun v => v.category).sum ≤ 8) (hdg : decode cc pc = .ok (.invokevirtual 107, 3)) (kk : ∀ (H1 : Heap) (locs1 : List Loc), PIC D clsA G dsc ad σ1 H1 → va_S A s.heap H1 locs1 → W p l e R s m args below meth c0 H1 locs1 cells slots Q (F0 m (pc + 3) ls (.long r :: rest))) : W p l e R s m args below meth c0 H locs cells slots Q (F0 m pc ls (.int x2 :: .int x1 :: .ref (ad 1080) :: rest)) :=
  p_gU (As := [.int x1, .int x2]) (rest := rest) E.1 hX hP hS hA hM (cw_any (owner := "ShutPasses$Table") (x := ⟨"ShutPasses$Table", "arriving", "(II)J"⟩) (y := yX5_arriving) (C := "ShutPasses$AtWorst") (index := 107) (own := RX5) 2 E.1.2.2.2.2 (lw_meth q1117) rfl hz.1 hz.2 (E.1.2.2.2.2 _ q1111) (E.1.2.2.2.2 _ q1113) (va_Decl.of (E.1.2.2.2.2 _ q1112) (E.1.2.2.2.2 _ q1117)) (E.1.2.2.2.2 _ q1114) (E.1.2.2.2.2 _ q1112) (E.1.2.2.2.2 _ q131) (by decide +kernel) hR) (hD.1 _ _ dX_1080) rfl rfl rfl hsz rfl hW hdg hcs kk
theorem cx_X5_110_X7_ahead_TS {rm : Room} {σ1 : Sto} {x1 : Int64} {x3 : Int32} {x4 : Int32} {r : Int64} (E : EN p s m args meth c0 RX5 cc nL ret) (hX : KX D G ad A s s.heap) (hD : XD dsc nr nw nu) (hP : PIC D clsA G dsc ad σ H) (hS : va_S A s.heap H locs) (hA : ∀ q, PA dsc ad s.heap.size q → A q) (hM : CtG l D G dsc ad yX7_ahead (ws_ yX7_ahead cX7_ahead 5 (Option.some Jvm.ClassFile.FieldType.long)) rm [.ref (ad 1080), .long x1, .int x3, .int x4] σ (some (.long r)) σ1) (hz : rm.cells = 0 ∧ rm.slots = 0) (hR : rm.frames + 1 ≤ R.frames ∧ 8 + (5 + 11) + rm.locals ≤ R.locals) (hcs : cells ≤ R.cells ∧ slots ≤ R.slots) (hsz : ls.size = nL) (hW : (rest.map fun v => v.category).sum ≤ 8) (hdg : decode cc pc = .ok (.invokevirtual 110, 3)) (kk : ∀ (H1 : Heap) (locs1 : List Loc), PIC D clsA G dsc ad σ1 H1 → va_S A s.heap H1 locs1 → W p l e R s m args below meth c0 H1 locs1 cells slots Q (F0 m (pc + 3) ls (.long r :: rest))) : W p l e R s m args below meth c0 H locs cells slots Q (F0 m pc ls (.int x4 :: .int x3 :: .long x1 :: .ref (ad 1080) :: rest)) :=
  p_gU (As := [.long x1, .int x3, .int x4]) (rest := rest) E.1 hX hP hS hA hM (cw_any (owner := "ShutPasses$Table") (x := ⟨"ShutPasses$Table", "ahead", "(JII)J"⟩) (y := yX7_ahead) (C := "ShutPasses$AtWorst") (index := 110) (own := RX5) 3 E.1.2.2.2.2 (lw_meth q1160) rfl hz.1 hz.2 (E.1.2.2.2.2 _ q1155) (E.1.2.2.2.2 _ q1157) (va_Decl.abs (hX.2.1.1 _ q1156 rfl)) (E.1.2.2.2.2 _ q1158) (E.1.2.2.2.2 _ q1159) (E.1.2.2.2.2 _ q133) (by decide +kernel) hR) (hD.1 _ _ dX_1080) rfl rfl rfl hsz rfl hW hdg hcs kk
/-! X5_going_TS (III)J -/
abbrev rmX5_going_TS : Room := { frames := 44, cells := 0, slots := 0, locals := 1217 }
set_option maxHeartbeats 4000000 in
theorem wkX5_going_TS {x1 : Int32} {x2 : Int32} {x3 : Int32} {r_ : Int64} (E : EN p s m args meth c0 RX5 cX5_going 7 (Option.some Jvm.ClassFile.FieldType.long)) (hX : KX D G ad A s s.heap) (hD : XD dsc nr nw nu) (hA : ∀ q, PA dsc ad s.heap.size q → A q) (hf : xo_X5_going_TS (σ.1 1082) (σ.1 2013) (σ.1 2027) (σ.2.1 1081) (σ.2.2.1 1170) (σ.2.2.1 2043) (σ.2.2.2.1 1141) (σ.2.2.2.1 1152) nr (fun k => σ.1 (6000 + 16 * k + 2)) (fun k => σ.1 (6000 + 16 * k + 5)) (fun k => σ.1 (6000 + 16 * k + 6)) (fun k => σ.2.2.1 (4000 + 16 * k)) x1 x2 x3 = some r_) (hQ : Q = MQ below (va_G1 (some (.long r_)) (fun t => PIC D clsA G dsc ad σ t.heap) A) args s 0 0 A) (hP : PIC D clsA G dsc ad σ H) (hS : va_S A s.heap H locs) (hl : lv_has ls 7 [(0, .ref (ad 1080)), (1, .int x1), (2, .int x2), (3, .int x3)]) : W p l e rmX5_going_TS s m args below meth c0 H locs 0 0 Q (F0 m 0 ls []) := by
  obtain ⟨⟨hx, hb, hml, hown, hts⟩, hr, hlk⟩ := id E
  unfold xo_X5_going_TS at hf
  refine lv_aload_n hx hb dX5_going_0 rfl (lv_at hl 0 rfl) ?_
  refine gx_X5_3_1080 E hX hD hP dX5_going_1 ?_
  refine gx_X5_27_1000 E hX hD hP dX5_going_4 ?_
  refine lv_iload_n hx hb dX5_going_7 rfl (lv_at hl 1 rfl) ?_
  refine lv_iload_n hx hb dX5_going_8 rfl (lv_at hl 2 rfl) ?_
  refine lv_iload_n hx hb dX5_going_9 rfl (lv_at hl 3 rfl) ?_
  obtain ⟨v1, u2, hf⟩ := bdP hf
  refine cx_X5_102_X3_cost E hX hD hP hS hA (kxX3_cost l D G hD rfl rfl rfl rfl rfl rfl u2) ⟨rfl, rfl⟩ ⟨Nat.le_of_ble_eq_true rfl, Nat.le_of_ble_eq_true rfl⟩ ⟨Nat.zero_le _, Nat.zero_le _⟩ hl.1 (Nat.le_of_ble_eq_true rfl) dX5_going_10 (fun H locs hP hS => ?_)
  refine lv_istore (lv' := [(4, .int v1), (0, .ref (ad 1080)), (1, .int x1), (2, .int x2), (3, .int x3)]) hx hb dX5_going_13 hl (by decide) rfl (fun ls hl => ?_)
  refine lv_iload hx hb dX5_going_15 (lv_at hl 0 rfl) ?_
  refine lv_ldc hx hb hown (hts _ q1110) dX5_going_17 ?_
  refine lv_icmp_ne (tgt := 27) hx hb dX5_going_19 (by decide) (fun c3 => ?_) (fun c3 => ?_)
  · have hf := ifF c3 hf
    refine lv_aload_n hx hb dX5_going_27 rfl (lv_at hl 1 rfl) ?_
    refine lv_iload_n hx hb dX5_going_28 rfl (lv_at hl 3 rfl) ?_
    refine lv_iload_n hx hb dX5_going_29 rfl (lv_at hl 4 rfl) ?_
    obtain ⟨v4, u5, hf⟩ := bdP hf
    refine cx_X5_107_X5_arriving_TS E hX hD hP hS hA (kxX5_arriving_TS l D G hD rfl rfl rfl rfl rfl rfl rfl rfl u5) ⟨rfl, rfl⟩ ⟨Nat.le_of_ble_eq_true rfl, Nat.le_of_ble_eq_true rfl⟩ ⟨Nat.zero_le _, Nat.zero_le _⟩ hl.1 (Nat.le_of_ble_eq_true rfl) dX5_going_30 (fun H locs hP hS => ?_)
    refine lv_lstore (lv' := [(5, .long v4), (4, .int v1), (0, .ref (ad 1080)), (1, .int x1), (2, .int x2), (3, .int x3)]) hx hb dX5_going_33 hl (by decide) rfl (fun ls hl => ?_)
    refine lv_lload hx hb dX5_going_35 (lv_at hl 0 rfl) ?_
    refine lv_aload_n hx hb dX5_going_37 rfl (lv_at hl 2 rfl) ?_
    refine gx_X5_19_1080 (v := (σ.2.1 1081)) E hX hD hP rfl dX5_going_38 ?_
    refine W.lcmp hx hb dX5_going_41 ?_
    refine lv_if_ne (tgt := 52) hx hb dX5_going_42 (by decide) (fun c6 => ?_) (fun c6 => ?_)
    · have hf := ifF (mt (lgc_eq _ _).mpr c6) hf
      refine lv_aload_n hx hb dX5_going_52 rfl (lv_at hl 2 rfl) ?_
      refine lv_lload hx hb dX5_going_53 (lv_at hl 0 rfl) ?_
      refine lv_iload hx hb dX5_going_55 (lv_at hl 1 rfl) ?_
      refine lv_iload_n hx hb dX5_going_57 rfl (lv_at hl 5 rfl) ?_
      obtain ⟨v7, u8, hf⟩ := bdP hf
      refine cx_X5_110_X7_ahead_TS E hX hD hP hS hA (kxX7_ahead_TS l D G hD u8) ⟨rfl, rfl⟩ ⟨Nat.le_of_ble_eq_true rfl, Nat.le_of_ble_eq_true rfl⟩ ⟨Nat.zero_le _, Nat.zero_le _⟩ hl.1 (Nat.le_of_ble_eq_true rfl) dX5_going_58 (fun H locs hP hS => ?_)
      cases hf
      rw [hQ]; exact g_lret hx hb hr hlk hP hS dX5_going_61
    · have hf := ifT ((lgc_eq _ _).mp c6) hf
      refine lv_aload_n hx hb dX5_going_45 rfl (lv_at hl 2 rfl) ?_
      refine gx_X5_19_1080 (v := (σ.2.1 1081)) E hX hD hP rfl dX5_going_46 ?_
      refine lv_goto (tgt := 61) hx hb dX5_going_49 (by decide) ?_
      cases hf
      rw [hQ]; exact g_lret hx hb hr hlk hP hS dX5_going_61
  · have hf := ifT c3 hf
    refine lv_aload_n hx hb dX5_going_22 rfl (lv_at hl 1 rfl) ?_
    refine gx_X5_19_1080 (v := (σ.2.1 1081)) E hX hD hP rfl dX5_going_23 ?_
    cases hf
    rw [hQ]; exact g_lret hx hb hr hlk hP hS dX5_going_26
theorem kxX5_going_TS (l : Launch) (D : va_G) (G : Nat → ClassId) {dsc : Nat → Option Dsc} {ad : Nat → Nat} {σ : Sto} {nr nw nu : Nat} (hD : XD dsc nr nw nu) {x1 : Int32} {x2 : Int32} {x3 : Int32} {r_ : Int64} {z_TS_by : Int32} (e_zI1082 : σ.1 1082 = z_TS_by) {z_L_to : Int32} (e_zI2013 : σ.1 2013 = z_L_to) {z_Ld_size : Int32} (e_zI2027 : σ.1 2027 = z_Ld_size) {z_TS_none : Int64} (e_zL1081 : σ.2.1 1081 = z_TS_none) {a_UNIT : Nat → Int32} (e_aI1170 : σ.2.2.1 1170 = a_UNIT) {a_L_seen : Nat → Int32} (e_aI2043 : σ.2.2.1 2043 = a_L_seen) {a_W_likely : Nat → Int64} (e_aL1141 : σ.2.2.2.1 1141 = a_W_likely) {a_TS_value : Nat → Int64} (e_aL1152 : σ.2.2.2.1 1152 = a_TS_value) {n_r : Nat} (e_nN0 : nr = n_r) {p_road_hours : Nat → Int32} (e_pR2 : (fun k => σ.1 (6000 + 16 * k + 2)) = p_road_hours) {p_road_wait : Nat → Int32} (e_pR5 : (fun k => σ.1 (6000 + 16 * k + 5)) = p_road_wait) {p_road_number : Nat → Int32} (e_pR6 : (fun k => σ.1 (6000 + 16 * k + 6)) = p_road_number) {g_grid : Nat → Nat → Int32} (e_gG0 : (fun k => σ.2.2.1 (4000 + 16 * k)) = g_grid) (hf : xo_X5_going_TS z_TS_by z_L_to z_Ld_size z_TS_none a_UNIT a_L_seen a_W_likely a_TS_value n_r p_road_hours p_road_wait p_road_number g_grid x1 x2 x3 = some r_) : CtG l D G dsc ad yX5_going (ws_ yX5_going cX5_going 7 (Option.some Jvm.ClassFile.FieldType.long)) rmX5_going_TS [.ref (ad 1080), .int x1, .int x2, .int x3] σ (some (.long r_)) σ := by
  subst e_zI1082
  subst e_zI2013
  subst e_zI2027
  subst e_zL1081
  subst e_aI1170
  subst e_aI2043
  subst e_aL1141
  subst e_aL1152
  subst e_nN0
  subst e_pR2
  subst e_pR5
  subst e_pR6
  subst e_gG0
  exact p_ctG (by decide +kernel) (Nat.le_of_ble_eq_true rfl) (fun p e s m below meth c0 ls A E hP hX hA hS hl => wkX5_going_TS E hX hD hA hf rfl hP hS hl)
end XWALK
