section XWALK
variable {p : Program} {l : Launch} {e : Env} {R : Room} {s : State} {m : MethodId} {args : Array Value} {below : List Frame} {meth : Method} {c0 : Code} {H : Heap} {locs : List Loc} {cells slots : Nat} {Q : State → Prop}
variable {cc : ByteArray} {nL : Nat} {ret : Option FieldType} {pc : Nat} {ls : Array Slot} {rest : List Value} {D : va_G} {A : Nat → Prop} {G : Nat → ClassId} {dsc : Nat → Option Dsc} {ad : Nat → Nat} {σ : Sto} {nr nw nu : Nat}
/-! X1_isPlan (I)Z -/
abbrev rmX1_isPlan : Room := { frames := 1, cells := 0, slots := 0, locals := 22 }
set_option maxHeartbeats 4000000 in
theorem wkX1_isPlan {x1 : Int32} {r_ : Int32} (E : EN p s m args meth c0 RX1 cX1_isPlan 2 (Option.some Jvm.ClassFile.FieldType.boolean)) (hX : KX D G ad A s s.heap) (hD : XD dsc nr nw nu) (hA : ∀ q, PA dsc ad s.heap.size q → A q) (hf : xo_X1_isPlan (σ.1 2012) (σ.1 2013) x1 = some r_) (hQ : Q = MQ below (va_G1 (some (.int r_)) (fun t => PIC D clsA G dsc ad σ t.heap) A) args s 0 0 A) (hP : PIC D clsA G dsc ad σ H) (hS : va_S A s.heap H locs) (hl : lv_has ls 2 [(0, .ref (ad 1000)), (1, .int x1)]) : W p l e rmX1_isPlan s m args below meth c0 H locs 0 0 Q (F0 m 0 ls []) := by
  obtain ⟨⟨hx, hb, hml, hown, hts⟩, hr, hlk⟩ := id E
  unfold xo_X1_isPlan at hf
  refine lv_iload_n hx hb dX1_isPlan_0 rfl (lv_at hl 1 rfl) ?_
  refine lv_iconst hx hb dX1_isPlan_1 ic_0 ?_
  refine lv_bipush hx hb dX1_isPlan_2 bp_6 ?_
  obtain ⟨v1, u2, hf⟩ := bdP hf
  refine cx_X1_143_X1_in E hX hD hP hS hA (kxX1_in l D G hD u2) ⟨rfl, rfl⟩ ⟨Nat.le_of_ble_eq_true rfl, Nat.le_of_ble_eq_true rfl⟩ ⟨Nat.zero_le _, Nat.zero_le _⟩ hl.1 (Nat.le_of_ble_eq_true rfl) dX1_isPlan_4 (fun H locs hP hS => ?_)
  have J24 : xo_X1_isPlan_J24 = some r_ → ∀ (H : Heap) (locs : List Loc), PIC D clsA G dsc ad σ H → va_S A s.heap H locs → ∀ (ls : Array Slot), lv_has ls 2 [] → W p l e rmX1_isPlan s m args below meth c0 H locs 0 0 Q (F0 m 24 ls []) := by
    intro  hf H locs hP hS ls hl
    unfold xo_X1_isPlan_J24 at hf
    refine lv_iconst hx hb dX1_isPlan_24 ic_0 ?_
    cases hf
    rw [hQ]; exact g_nret hx hb hr hlk hP hS rfl dX1_isPlan_25
  refine lv_if_eq (tgt := 24) hx hb dX1_isPlan_7 (by decide) (fun c3 => ?_) (fun c3 => ?_)
  · have hf := ifT c3 hf
    exact J24  hf H locs hP hS ls (lv_sub hl [] rfl)
  · have hf := ifF c3 hf
    refine lv_aload_n hx hb dX1_isPlan_10 rfl (lv_at hl 0 rfl) ?_
    refine gx_X1_33_1000 E hX hD hP dX1_isPlan_11 ?_
    obtain ⟨v4, u5, hf⟩ := bdP hf
    refine cx_X1_231_X3_isWhole E hX hD hP hS hA (kxX3_isWhole l D G hD rfl rfl u5) ⟨rfl, rfl⟩ ⟨Nat.le_of_ble_eq_true rfl, Nat.le_of_ble_eq_true rfl⟩ ⟨Nat.zero_le _, Nat.zero_le _⟩ hl.1 (Nat.le_of_ble_eq_true rfl) dX1_isPlan_14 (fun H locs hP hS => ?_)
    refine lv_if_eq (tgt := 24) hx hb dX1_isPlan_17 (by decide) (fun c6 => ?_) (fun c6 => ?_)
    · have hf := ifT c6 hf
      exact J24  hf H locs hP hS ls (lv_sub hl [] rfl)
    · have hf := ifF c6 hf
      refine lv_iconst hx hb dX1_isPlan_20 ic_1 ?_
      refine lv_goto (tgt := 25) hx hb dX1_isPlan_21 (by decide) ?_
      cases hf
      rw [hQ]; exact g_nret hx hb hr hlk hP hS rfl dX1_isPlan_25
theorem kxX1_isPlan (l : Launch) (D : va_G) (G : Nat → ClassId) {dsc : Nat → Option Dsc} {ad : Nat → Nat} {σ : Sto} {nr nw nu : Nat} (hD : XD dsc nr nw nu) {x1 : Int32} {r_ : Int32} {z_L_from : Int32} (e_zI2012 : σ.1 2012 = z_L_from) {z_L_to : Int32} (e_zI2013 : σ.1 2013 = z_L_to) (hf : xo_X1_isPlan z_L_from z_L_to x1 = some r_) : CtG l D G dsc ad yX1_isPlan (ws_ yX1_isPlan cX1_isPlan 2 (Option.some Jvm.ClassFile.FieldType.boolean)) rmX1_isPlan [.ref (ad 1000), .int x1] σ (some (.int r_)) σ := by
  subst e_zI2012
  subst e_zI2013
  exact p_ctG (by decide +kernel) (Nat.le_of_ble_eq_true rfl) (fun p e s m below meth c0 ls A E hP hX hA hS hl => wkX1_isPlan E hX hD hA hf rfl hP hS hl)
/-! X1_isWorld (I)Z -/
abbrev rmX1_isWorld : Room := { frames := 2, cells := 0, slots := 0, locals := 40 }
set_option maxHeartbeats 4000000 in
theorem wkX1_isWorld {x1 : Int32} {r_ : Int32} (E : EN p s m args meth c0 RX1 cX1_isWorld 2 (Option.some Jvm.ClassFile.FieldType.boolean)) (hX : KX D G ad A s s.heap) (hD : XD dsc nr nw nu) (hA : ∀ q, PA dsc ad s.heap.size q → A q) (hf : xo_X1_isWorld (σ.1 2027) x1 = some r_) (hQ : Q = MQ below (va_G1 (some (.int r_)) (fun t => PIC D clsA G dsc ad σ t.heap) A) args s 0 0 A) (hP : PIC D clsA G dsc ad σ H) (hS : va_S A s.heap H locs) (hl : lv_has ls 2 [(0, .ref (ad 1000)), (1, .int x1)]) : W p l e rmX1_isWorld s m args below meth c0 H locs 0 0 Q (F0 m 0 ls []) := by
  obtain ⟨⟨hx, hb, hml, hown, hts⟩, hr, hlk⟩ := id E
  unfold xo_X1_isWorld at hf
  refine lv_iload_n hx hb dX1_isWorld_0 rfl (lv_at hl 1 rfl) ?_
  refine lv_iconst hx hb dX1_isWorld_1 ic_0 ?_
  refine lv_aload_n hx hb dX1_isWorld_2 rfl (lv_at hl 0 rfl) ?_
  refine gx_X1_33_1000 E hX hD hP dX1_isWorld_3 ?_
  obtain ⟨v1, u2, hf⟩ := bdP hf
  refine cx_X1_239_X3_worlds E hX hD hP hS hA (kxX3_worlds l D G hD rfl u2) ⟨rfl, rfl⟩ ⟨Nat.le_of_ble_eq_true rfl, Nat.le_of_ble_eq_true rfl⟩ ⟨Nat.zero_le _, Nat.zero_le _⟩ hl.1 (Nat.le_of_ble_eq_true rfl) dX1_isWorld_6 (fun H locs hP hS => ?_)
  refine lv_iconst hx hb dX1_isWorld_9 ic_1 ?_
  refine lv_isub hx hb dX1_isWorld_10 ?_
  obtain ⟨v3, u4, hf⟩ := bdP hf
  refine cx_X1_143_X1_in E hX hD hP hS hA (kxX1_in l D G hD u4) ⟨rfl, rfl⟩ ⟨Nat.le_of_ble_eq_true rfl, Nat.le_of_ble_eq_true rfl⟩ ⟨Nat.zero_le _, Nat.zero_le _⟩ hl.1 (Nat.le_of_ble_eq_true rfl) dX1_isWorld_11 (fun H locs hP hS => ?_)
  obtain ⟨v5, hv5, hf⟩ := bdP hf
  obtain ⟨hv5a, hv5b⟩ := retZ_some hv5
  subst hv5a
  cases hf
  rw [hQ]; exact g_nret hx hb hr hlk hP hS hv5b dX1_isWorld_14
theorem kxX1_isWorld (l : Launch) (D : va_G) (G : Nat → ClassId) {dsc : Nat → Option Dsc} {ad : Nat → Nat} {σ : Sto} {nr nw nu : Nat} (hD : XD dsc nr nw nu) {x1 : Int32} {r_ : Int32} {z_Ld_size : Int32} (e_zI2027 : σ.1 2027 = z_Ld_size) (hf : xo_X1_isWorld z_Ld_size x1 = some r_) : CtG l D G dsc ad yX1_isWorld (ws_ yX1_isWorld cX1_isWorld 2 (Option.some Jvm.ClassFile.FieldType.boolean)) rmX1_isWorld [.ref (ad 1000), .int x1] σ (some (.int r_)) σ := by
  subst e_zI2027
  exact p_ctG (by decide +kernel) (Nat.le_of_ble_eq_true rfl) (fun p e s m below meth c0 ls A E hP hX hA hS hl => wkX1_isWorld E hX hD hA hf rfl hP hS hl)
theorem gx_X1_278_1050 (E : EN p s m args meth c0 RX1 cc nL ret) (hX : KX D G ad A s s.heap) (hD : XD dsc nr nw nu) (hP : PIC D clsA G dsc ad σ H) (hdg : decode cc pc = .ok (.getfield 278, 3)) (kk : W p l e R s m args below meth c0 H locs cells slots Q (F0 m (pc + 3) ls (.ref (ad 1140) :: rest))) : W p l e R s m args below meth c0 H locs cells slots Q (F0 m pc ls (.ref (ad 1050) :: rest)) :=
  p_getN E.1.1 E.1.2.1 E.1.2.2.2.2 in_X4 E.1.2.2.2.1 hX.1 hP (hD.1 _ _ dX_1050) rfl 0 (by decide) (hX.2.1.1 _ q326 rfl) (fun _ h => h) rfl rfl hdg kk
/-! X1_isAhead (I)Z -/
abbrev rmX1_isAhead : Room := { frames := 0, cells := 0, slots := 0, locals := 0 }
set_option maxHeartbeats 4000000 in
theorem wkX1_isAhead {x1 : Int32} {r_ : Int32} (E : EN p s m args meth c0 RX1 cX1_isAhead 3 (Option.some Jvm.ClassFile.FieldType.boolean)) (hX : KX D G ad A s s.heap) (hD : XD dsc nr nw nu) (hA : ∀ q, PA dsc ad s.heap.size q → A q) (hf : xo_X1_isAhead (σ.2.2.1 1108) (σ.2.2.2.1 1140) x1 = some r_) (hQ : Q = MQ below (va_G1 (some (.int r_)) (fun t => PIC D clsA G dsc ad σ t.heap) A) args s 0 0 A) (hP : PIC D clsA G dsc ad σ H) (hS : va_S A s.heap H locs) (hl : lv_has ls 3 [(0, .ref (ad 1000)), (1, .int x1)]) : W p l e rmX1_isAhead s m args below meth c0 H locs 0 0 Q (F0 m 0 ls []) := by
  obtain ⟨⟨hx, hb, hml, hown, hts⟩, hr, hlk⟩ := id E
  unfold xo_X1_isAhead at hf
  refine lv_iconst hx hb dX1_isAhead_0 ic_0 ?_
  refine lv_istore_n (lv' := [(2, .int 0), (0, .ref (ad 1000)), (1, .int x1)]) hx hb dX1_isAhead_1 rfl hl (by decide) rfl (fun ls hl => ?_)
  have LP2 : ∀ (st2 : Int32) (ex2 : (Unit) ⊕ (Unit)), loop (xo_X1_isAhead_L2 (σ.2.2.1 1108) (σ.2.2.2.1 1140) x1) st2 = some ex2 → ∀ (H : Heap) (locs : List Loc), PIC D clsA G dsc ad σ H → va_S A s.heap H locs → ∀ (ls : Array Slot), lv_has ls 3 [(0, .ref (ad 1000)), (1, .int x1), (2, .int st2)] → (ex2 = (.inl (())) → ∀ (H : Heap) (locs : List Loc), PIC D clsA G dsc ad σ H → va_S A s.heap H locs → ∀ (ls : Array Slot), lv_has ls 3 [] → W p l e rmX1_isAhead s m args below meth c0 H locs 0 0 Q (F0 m 36 ls [])) → (ex2 = (.inr ()) → ∀ (H : Heap) (locs : List Loc), PIC D clsA G dsc ad σ H → va_S A s.heap H locs → ∀ (ls : Array Slot), lv_has ls 3 [] → W p l e rmX1_isAhead s m args below meth c0 H locs 0 0 Q (F0 m 44 ls [])) → W p l e rmX1_isAhead s m args below meth c0 H locs 0 0 Q (F0 m 2 ls []) := by
    refine loop_P (fun st2 ex2 o2 hf ih2 hx2 => ?_)
    obtain ⟨y1, rfl⟩ : ∃ z, z = st2 := ⟨_, rfl⟩
    intro H locs (hP : PIC D clsA G dsc ad σ H) hS ls (hl : lv_has ls 3 [(0, .ref (ad 1000)), (1, .int x1), (2, .int y1)]) KE2_0 KE2_1
    dsimp only [xo_X1_isAhead_L2] at hf
    refine lv_iload_n hx hb dX1_isAhead_2 rfl (lv_at hl 2 rfl) ?_
    refine lv_iload_n hx hb dX1_isAhead_3 rfl (lv_at hl 1 rfl) ?_
    refine lv_icmp_ge (tgt := 44) hx hb dX1_isAhead_4 (by decide) (fun c2 => ?_) (fun c2 => ?_)
    · have hf := ifT c2 hf
      exact KE2_1  (hx2 _ (Option.some.inj hf).symm).symm H locs hP hS ls (lv_sub hl [] rfl)
    · have hf := ifF c2 hf
      refine lv_aload_n hx hb dX1_isAhead_7 rfl (lv_at hl 0 rfl) ?_
      refine gx_X1_40_1000 E hX hD hP dX1_isAhead_8 ?_
      refine gx_X1_278_1050 E hX hD hP dX1_isAhead_11 ?_
      refine lv_iload_n hx hb dX1_isAhead_14 rfl (lv_at hl 2 rfl) ?_
      obtain ⟨v3, hv3, hf⟩ := bdP hf
      refine p_lald hx hb hX.1 hP (hD.1 _ _ dX_1140) rfl hv3 dX1_isAhead_15 ?_
      refine lv_lconst hx hb dX1_isAhead_16 lc_0 ?_
      refine W.lcmp hx hb dX1_isAhead_17 ?_
      have J38 : xo_X1_isAhead_J38 y1 = some o2 → ∀ (H : Heap) (locs : List Loc), PIC D clsA G dsc ad σ H → va_S A s.heap H locs → ∀ (ls : Array Slot), lv_has ls 3 [(0, .ref (ad 1000)), (1, .int x1), (2, .int y1)] → W p l e rmX1_isAhead s m args below meth c0 H locs 0 0 Q (F0 m 38 ls []) := by
        intro  hf H locs hP hS ls hl
        unfold xo_X1_isAhead_J38 at hf
        obtain ⟨v4, hv4, hf⟩ := bdP hf
        refine lv_iinc (v := v4) (lv' := [(2, .int v4), (0, .ref (ad 1000)), (1, .int x1)]) hx hb dX1_isAhead_38 hl (k := 2) rfl (Option.some.inj hv4) (by decide) rfl (fun ls hl => ?_)
        refine lv_goto (tgt := 2) hx hb dX1_isAhead_41 (by decide) ?_
        exact ih2 _ (Option.some.inj hf).symm H locs hP hS ls (lv_sub hl [1, 2, 0] rfl) KE2_0 KE2_1
      refine lv_if_le (tgt := 38) hx hb dX1_isAhead_18 (by decide) (fun c5 => ?_) (fun c5 => ?_)
      · have hf := ifT ((lgc_le _ _).mp c5) hf
        exact J38  hf H locs hP hS ls (lv_sub hl [0, 1, 2] rfl)
      · have hf := ifF (mt (lgc_le _ _).mpr c5) hf
        refine lv_aload_n hx hb dX1_isAhead_21 rfl (lv_at hl 0 rfl) ?_
        refine gx_X1_47_1000 E hX hD hP dX1_isAhead_22 ?_
        refine lv_iload_n hx hb dX1_isAhead_25 rfl (lv_at hl 2 rfl) ?_
        obtain ⟨v6, hv6, hf⟩ := bdP hf
        refine p_iald hx hb hX.1 hP (hD.1 _ _ dX_1108) rfl hv6 dX1_isAhead_26 ?_
        refine lv_aload_n hx hb dX1_isAhead_27 rfl (lv_at hl 0 rfl) ?_
        refine gx_X1_47_1000 E hX hD hP dX1_isAhead_28 ?_
        refine lv_iload_n hx hb dX1_isAhead_31 rfl (lv_at hl 1 rfl) ?_
        obtain ⟨v7, hv7, hf⟩ := bdP hf
        refine p_iald hx hb hX.1 hP (hD.1 _ _ dX_1108) rfl hv7 dX1_isAhead_32 ?_
        refine lv_icmp_ne (tgt := 38) hx hb dX1_isAhead_33 (by decide) (fun c8 => ?_) (fun c8 => ?_)
        · have hf := ifF c8 hf
          exact J38  hf H locs hP hS ls (lv_sub hl [0, 1, 2] rfl)
        · have hf := ifT c8 hf
          exact KE2_0  (hx2 _ (Option.some.inj hf).symm).symm H locs hP hS ls (lv_sub hl [] rfl)
  obtain ⟨ex2, hlp2, hf⟩ := bdP hf
  refine LP2 0 ex2 hlp2 H locs hP hS ls (lv_sub hl [1, 2, 0] rfl) ?_ ?_
  · intro  hex2 H locs hP hS ls hl
    subst ex2
    dsimp only [sE_l, sE_r] at hf
    refine lv_iconst hx hb dX1_isAhead_36 ic_1 ?_
    cases hf
    rw [hQ]; exact g_nret hx hb hr hlk hP hS rfl dX1_isAhead_37
  · intro  hex2 H locs hP hS ls hl
    subst ex2
    dsimp only [sE_l, sE_r] at hf
    refine lv_iconst hx hb dX1_isAhead_44 ic_0 ?_
    cases hf
    rw [hQ]; exact g_nret hx hb hr hlk hP hS rfl dX1_isAhead_45
theorem kxX1_isAhead (l : Launch) (D : va_G) (G : Nat → ClassId) {dsc : Nat → Option Dsc} {ad : Nat → Nat} {σ : Sto} {nr nw nu : Nat} (hD : XD dsc nr nw nu) {x1 : Int32} {r_ : Int32} {a_X_knowing : Nat → Int32} (e_aI1108 : σ.2.2.1 1108 = a_X_knowing) {a_W_world : Nat → Int64} (e_aL1140 : σ.2.2.2.1 1140 = a_W_world) (hf : xo_X1_isAhead a_X_knowing a_W_world x1 = some r_) : CtG l D G dsc ad yX1_isAhead (ws_ yX1_isAhead cX1_isAhead 3 (Option.some Jvm.ClassFile.FieldType.boolean)) rmX1_isAhead [.ref (ad 1000), .int x1] σ (some (.int r_)) σ := by
  subst e_aI1108
  subst e_aL1140
  exact p_ctG (by decide +kernel) (Nat.le_of_ble_eq_true rfl) (fun p e s m below meth c0 ls A E hP hX hA hS hl => wkX1_isAhead E hX hD hA hf rfl hP hS hl)
/-! X5_notKnown_TF (I)I -/
abbrev rmX5_notKnown_TF : Room := { frames := 1, cells := 0, slots := 0, locals := 21 }
set_option maxHeartbeats 4000000 in
theorem wkX5_notKnown_TF {x1 : Int32} {r_ : Int32} (E : EN p s m args meth c0 RX5 cX5_notKnown 4 (Option.some Jvm.ClassFile.FieldType.int)) (hX : KX D G ad A s s.heap) (hD : XD dsc nr nw nu) (hA : ∀ q, PA dsc ad s.heap.size q → A q) (hf : xo_X5_notKnown_TF (σ.1 2027) (σ.2.2.1 1170) x1 = some r_) (hQ : Q = MQ below (va_G1 (some (.int r_)) (fun t => PIC D clsA G dsc ad σ t.heap) A) args s 0 0 A) (hP : PIC D clsA G dsc ad σ H) (hS : va_S A s.heap H locs) (hl : lv_has ls 4 [(0, .ref (ad 1090)), (1, .int x1)]) : W p l e rmX5_notKnown_TF s m args below meth c0 H locs 0 0 Q (F0 m 0 ls []) := by
  obtain ⟨⟨hx, hb, hml, hown, hts⟩, hr, hlk⟩ := id E
  unfold xo_X5_notKnown_TF at hf
  refine lv_iconst hx hb dX5_notKnown_0 ic_0 ?_
  refine lv_istore_n (lv' := [(2, .int 0), (0, .ref (ad 1090)), (1, .int x1)]) hx hb dX5_notKnown_1 rfl hl (by decide) rfl (fun ls hl => ?_)
  refine lv_iconst hx hb dX5_notKnown_2 ic_0 ?_
  refine lv_istore_n (lv' := [(3, .int 0), (2, .int 0), (0, .ref (ad 1090)), (1, .int x1)]) hx hb dX5_notKnown_3 rfl hl (by decide) rfl (fun ls hl => ?_)
  have LP4 : ∀ (st4 : Int32 × Int32) (ex4 : (Int32)), loop (xo_X5_notKnown_TF_L4 (σ.1 2027) (σ.2.2.1 1170) x1) st4 = some ex4 → ∀ (H : Heap) (locs : List Loc), PIC D clsA G dsc ad σ H → va_S A s.heap H locs → ∀ (ls : Array Slot), lv_has ls 4 [(0, .ref (ad 1090)), (1, .int x1), (2, .int (st4.1)), (3, .int (st4.2))] → (∀ (y13 : Int32), ex4 = y13 → ∀ (H : Heap) (locs : List Loc), PIC D clsA G dsc ad σ H → va_S A s.heap H locs → ∀ (ls : Array Slot), lv_has ls 4 [(2, .int y13)] → W p l e rmX5_notKnown_TF s m args below meth c0 H locs 0 0 Q (F0 m 43 ls [])) → W p l e rmX5_notKnown_TF s m args below meth c0 H locs 0 0 Q (F0 m 4 ls []) := by
    refine loop_P (fun st4 ex4 o4 hf ih4 hx4 => ?_)
    obtain ⟨y1, y2⟩ := st4
    intro H locs (hP : PIC D clsA G dsc ad σ H) hS ls (hl : lv_has ls 4 [(0, .ref (ad 1090)), (1, .int x1), (2, .int y1), (3, .int y2)]) KE4_0
    dsimp only [xo_X5_notKnown_TF_L4] at hf
    refine lv_iload_n hx hb dX5_notKnown_4 rfl (lv_at hl 3 rfl) ?_
    refine lv_aload_n hx hb dX5_notKnown_5 rfl (lv_at hl 0 rfl) ?_
    refine gx_X5_3_1090 E hX hD hP dX5_notKnown_6 ?_
    refine gx_X5_27_1000 E hX hD hP dX5_notKnown_9 ?_
    refine gx_X5_31_2000 E hX hD hP dX5_notKnown_12 ?_
    obtain ⟨v3, u4, hf⟩ := bdP hf
    refine cx_X5_37_J2_size_Ld E hX hD hP hS hA (kxJ2_size_Ld l D G hD rfl u4) ⟨rfl, rfl⟩ ⟨Nat.le_of_ble_eq_true rfl, Nat.le_of_ble_eq_true rfl⟩ ⟨Nat.zero_le _, Nat.zero_le _⟩ hl.1 (Nat.le_of_ble_eq_true rfl) dX5_notKnown_15 (fun H locs hP hS => ?_)
    refine lv_icmp_ge (tgt := 43) hx hb dX5_notKnown_18 (by decide) (fun c5 => ?_) (fun c5 => ?_)
    · have hf := ifT c5 hf
      exact KE4_0 _ (hx4 _ (Option.some.inj hf).symm).symm H locs hP hS ls (lv_sub hl [2] rfl)
    · have hf := ifF c5 hf
      refine lv_iload_n hx hb dX5_notKnown_21 rfl (lv_at hl 2 rfl) ?_
      refine lv_iload_n hx hb dX5_notKnown_22 rfl (lv_at hl 1 rfl) ?_
      refine lv_iload_n hx hb dX5_notKnown_23 rfl (lv_at hl 3 rfl) ?_
      obtain ⟨v6, u7, hf⟩ := bdP hf
      refine cx_X5_59_X1_digit E hX hD hP hS hA (kxX1_digit l D G hD rfl u7) ⟨rfl, rfl⟩ ⟨Nat.le_of_ble_eq_true rfl, Nat.le_of_ble_eq_true rfl⟩ ⟨Nat.zero_le _, Nat.zero_le _⟩ hl.1 (Nat.le_of_ble_eq_true rfl) dX5_notKnown_24 (fun H locs hP hS => ?_)
      have J35 : ∀ (k8 : Int32) (k9 : Int32), xo_X5_notKnown_TF_J35 y2 k8 k9 = some o4 → ∀ (H : Heap) (locs : List Loc), PIC D clsA G dsc ad σ H → va_S A s.heap H locs → ∀ (ls : Array Slot), lv_has ls 4 [(0, .ref (ad 1090)), (1, .int x1), (3, .int y2)] → W p l e rmX5_notKnown_TF s m args below meth c0 H locs 0 0 Q (F0 m 35 ls [.int k8, .int k9]) := by
        intro k8 k9 hf H locs hP hS ls hl
        unfold xo_X5_notKnown_TF_J35 at hf
        refine lv_iadd hx hb dX5_notKnown_35 ?_
        obtain ⟨v10, hv10, hf⟩ := bdP hf
        refine nm_i (Option.some.inj hv10) ?_
        refine lv_istore_n (lv' := [(2, .int v10), (0, .ref (ad 1090)), (1, .int x1), (3, .int y2)]) hx hb dX5_notKnown_36 rfl hl (by decide) rfl (fun ls hl => ?_)
        obtain ⟨v11, hv11, hf⟩ := bdP hf
        refine lv_iinc (v := v11) (lv' := [(3, .int v11), (2, .int v10), (0, .ref (ad 1090)), (1, .int x1)]) hx hb dX5_notKnown_37 hl (k := 3) rfl (Option.some.inj hv11) (by decide) rfl (fun ls hl => ?_)
        refine lv_goto (tgt := 4) hx hb dX5_notKnown_40 (by decide) ?_
        exact ih4 _ (Option.some.inj hf).symm H locs hP hS ls (lv_sub hl [2, 3, 1, 0] rfl) KE4_0
      refine lv_if_ne (tgt := 34) hx hb dX5_notKnown_27 (by decide) (fun c12 => ?_) (fun c12 => ?_)
      · have hf := ifF c12 hf
        refine lv_iconst hx hb dX5_notKnown_34 ic_0 ?_
        exact J35 0 y1 hf H locs hP hS ls (lv_sub hl [0, 1, 3] rfl)
      · have hf := ifT c12 hf
        refine lv_iconst hx hb dX5_notKnown_30 ic_1 ?_
        refine lv_goto (tgt := 35) hx hb dX5_notKnown_31 (by decide) ?_
        exact J35 1 y1 hf H locs hP hS ls (lv_sub hl [0, 1, 3] rfl)
  obtain ⟨ex4, hlp4, hf⟩ := bdP hf
  refine LP4 (0, 0) ex4 hlp4 H locs hP hS ls (lv_sub hl [2, 3, 1, 0] rfl) ?_
  intro y13 hex4 H locs hP hS ls hl
  subst ex4
  refine lv_iload_n hx hb dX5_notKnown_43 rfl (lv_at hl 0 rfl) ?_
  cases hf
  rw [hQ]; exact g_iret hx hb hr hlk hP hS dX5_notKnown_44
theorem kxX5_notKnown_TF (l : Launch) (D : va_G) (G : Nat → ClassId) {dsc : Nat → Option Dsc} {ad : Nat → Nat} {σ : Sto} {nr nw nu : Nat} (hD : XD dsc nr nw nu) {x1 : Int32} {r_ : Int32} {z_Ld_size : Int32} (e_zI2027 : σ.1 2027 = z_Ld_size) {a_UNIT : Nat → Int32} (e_aI1170 : σ.2.2.1 1170 = a_UNIT) (hf : xo_X5_notKnown_TF z_Ld_size a_UNIT x1 = some r_) : CtG l D G dsc ad yX5_notKnown (ws_ yX5_notKnown cX5_notKnown 4 (Option.some Jvm.ClassFile.FieldType.int)) rmX5_notKnown_TF [.ref (ad 1090), .int x1] σ (some (.int r_)) σ := by
  subst e_zI2027
  subst e_aI1170
  exact p_ctG (by decide +kernel) (Nat.le_of_ble_eq_true rfl) (fun p e s m below meth c0 ls A E hP hX hA hS hl => wkX5_notKnown_TF E hX hD hA hf rfl hP hS hl)
/-! X8_isBetter_TF (JJ)Z -/
abbrev rmX8_isBetter_TF : Room := { frames := 0, cells := 0, slots := 0, locals := 0 }
set_option maxHeartbeats 4000000 in
theorem wkX8_isBetter_TF {x1 : Int64} {x3 : Int64} {r_ : Int32} (E : EN p s m args meth c0 RX8 cX8_isBetter 5 (Option.some Jvm.ClassFile.FieldType.boolean)) (hX : KX D G ad A s s.heap) (hD : XD dsc nr nw nu) (hA : ∀ q, PA dsc ad s.heap.size q → A q) (hf : xo_X8_isBetter_TF x1 x3 = some r_) (hQ : Q = MQ below (va_G1 (some (.int r_)) (fun t => PIC D clsA G dsc ad σ t.heap) A) args s 0 0 A) (hP : PIC D clsA G dsc ad σ H) (hS : va_S A s.heap H locs) (hl : lv_has ls 5 [(0, .ref (ad 1090)), (1, .long x1), (3, .long x3)]) : W p l e rmX8_isBetter_TF s m args below meth c0 H locs 0 0 Q (F0 m 0 ls []) := by
  obtain ⟨⟨hx, hb, hml, hown, hts⟩, hr, hlk⟩ := id E
  unfold xo_X8_isBetter_TF at hf
  refine lv_lload_n hx hb dX8_isBetter_0 rfl (lv_at hl 1 rfl) ?_
  refine lv_lload_n hx hb dX8_isBetter_1 rfl (lv_at hl 2 rfl) ?_
  refine W.lcmp hx hb dX8_isBetter_2 ?_
  refine lv_if_le (tgt := 10) hx hb dX8_isBetter_3 (by decide) (fun c1 => ?_) (fun c1 => ?_)
  · have hf := ifT ((lgc_le _ _).mp c1) hf
    refine lv_iconst hx hb dX8_isBetter_10 ic_0 ?_
    cases hf
    rw [hQ]; exact g_nret hx hb hr hlk hP hS rfl dX8_isBetter_11
  · have hf := ifF (mt (lgc_le _ _).mpr c1) hf
    refine lv_iconst hx hb dX8_isBetter_6 ic_1 ?_
    refine lv_goto (tgt := 11) hx hb dX8_isBetter_7 (by decide) ?_
    cases hf
    rw [hQ]; exact g_nret hx hb hr hlk hP hS rfl dX8_isBetter_11
theorem kxX8_isBetter_TF (l : Launch) (D : va_G) (G : Nat → ClassId) {dsc : Nat → Option Dsc} {ad : Nat → Nat} {σ : Sto} {nr nw nu : Nat} (hD : XD dsc nr nw nu) {x1 : Int64} {x3 : Int64} {r_ : Int32} (hf : xo_X8_isBetter_TF x1 x3 = some r_) : CtG l D G dsc ad yX8_isBetter (ws_ yX8_isBetter cX8_isBetter 5 (Option.some Jvm.ClassFile.FieldType.boolean)) rmX8_isBetter_TF [.ref (ad 1090), .long x1, .long x3] σ (some (.int r_)) σ := by
  exact p_ctG (by decide +kernel) (Nat.le_of_ble_eq_true rfl) (fun p e s m below meth c0 ls A E hP hX hA hS hl => wkX8_isBetter_TF E hX hD hA hf rfl hP hS hl)
theorem cx_X5_98_X8_isBetter_TF {rm : Room} {σ1 : Sto} {x1 : Int64} {x3 : Int64} {r : Int32} (E : EN p s m args meth c0 RX5 cc nL ret) (hX : KX D G ad A s s.heap) (hD : XD dsc nr nw nu) (hP : PIC D clsA G dsc ad σ H) (hS : va_S A s.heap H locs) (hA : ∀ q, PA dsc ad s.heap.size q → A q) (hM : CtG l D G dsc ad yX8_isBetter (ws_ yX8_isBetter cX8_isBetter 5 (Option.some Jvm.ClassFile.FieldType.boolean)) rm [.ref (ad 1090), .long x1, .long x3] σ (some (.int r)) σ1) (hz : rm.cells = 0 ∧ rm.slots = 0) (hR : rm.frames + 1 ≤ R.frames ∧ 8 + (5 + 11) + rm.locals ≤ R.locals) (hcs : cells ≤ R.cells ∧ slots ≤ R.slots) (hsz : ls.size = nL) (hW : (rest.map fun v => v.category).sum ≤ 8) (hdg : decode cc pc = .ok (.invokevirtual 98, 3)) (kk : ∀ (H1 : Heap) (locs1 : List Loc), PIC D clsA G dsc ad σ1 H1 → va_S A s.heap H1 locs1 → W p l e R s m args below meth c0 H1 locs1 cells slots Q (F0 m (pc + 3) ls (.int r :: rest))) : W p l e R s m args below meth c0 H locs cells slots Q (F0 m pc ls (.long x3 :: .long x1 :: .ref (ad 1090) :: rest)) :=
  p_gU (As := [.long x1, .long x3]) (rest := rest) E.1 hX hP hS hA hM (cw_any (owner := "ShutPasses$Table") (x := ⟨"ShutPasses$Table", "isBetter", "(JJ)Z"⟩) (y := yX8_isBetter) (C := "ShutPasses$Spare") (index := 98) (own := RX5) 2 E.1.2.2.2.2 (lw_meth q1180) rfl hz.1 hz.2 (E.1.2.2.2.2 _ q1171) (E.1.2.2.2.2 _ q1173) (va_Decl.abs (hX.2.1.1 _ q1172 rfl)) (E.1.2.2.2.2 _ q1178) (E.1.2.2.2.2 _ q1179) (E.1.2.2.2.2 _ q134) (by decide +kernel) hR) (hD.1 _ _ dX_1090) rfl rfl rfl hsz rfl hW hdg hcs kk
/-! X5_better_TF (JJ)J -/
abbrev rmX5_better_TF : Room := { frames := 1, cells := 0, slots := 0, locals := 24 }
set_option maxHeartbeats 4000000 in
theorem wkX5_better_TF {x1 : Int64} {x3 : Int64} {r_ : Int64} (E : EN p s m args meth c0 RX5 cX5_better 5 (Option.some Jvm.ClassFile.FieldType.long)) (hX : KX D G ad A s s.heap) (hD : XD dsc nr nw nu) (hA : ∀ q, PA dsc ad s.heap.size q → A q) (hf : xo_X5_better_TF (σ.2.1 1091) x1 x3 = some r_) (hQ : Q = MQ below (va_G1 (some (.long r_)) (fun t => PIC D clsA G dsc ad σ t.heap) A) args s 0 0 A) (hP : PIC D clsA G dsc ad σ H) (hS : va_S A s.heap H locs) (hl : lv_has ls 5 [(0, .ref (ad 1090)), (1, .long x1), (3, .long x3)]) : W p l e rmX5_better_TF s m args below meth c0 H locs 0 0 Q (F0 m 0 ls []) := by
  obtain ⟨⟨hx, hb, hml, hown, hts⟩, hr, hlk⟩ := id E
  unfold xo_X5_better_TF at hf
  refine lv_lload_n hx hb dX5_better_0 rfl (lv_at hl 2 rfl) ?_
  refine lv_aload_n hx hb dX5_better_1 rfl (lv_at hl 0 rfl) ?_
  refine gx_X5_19_1090 (v := (σ.2.1 1091)) E hX hD hP rfl dX5_better_2 ?_
  refine W.lcmp hx hb dX5_better_5 ?_
  have J31 : xo_X5_better_TF_J31 x1 = some r_ → ∀ (H : Heap) (locs : List Loc), PIC D clsA G dsc ad σ H → va_S A s.heap H locs → ∀ (ls : Array Slot), lv_has ls 5 [(1, .long x1)] → W p l e rmX5_better_TF s m args below meth c0 H locs 0 0 Q (F0 m 31 ls []) := by
    intro  hf H locs hP hS ls hl
    unfold xo_X5_better_TF_J31 at hf
    refine lv_lload_n hx hb dX5_better_31 rfl (lv_at hl 0 rfl) ?_
    cases hf
    rw [hQ]; exact g_lret hx hb hr hlk hP hS dX5_better_32
  refine lv_if_eq (tgt := 31) hx hb dX5_better_6 (by decide) (fun c1 => ?_) (fun c1 => ?_)
  · have hf := ifT ((lgc_eq _ _).mp c1) hf
    exact J31  hf H locs hP hS ls (lv_sub hl [1] rfl)
  · have hf := ifF (mt (lgc_eq _ _).mpr c1) hf
    refine lv_lload_n hx hb dX5_better_9 rfl (lv_at hl 1 rfl) ?_
    refine lv_aload_n hx hb dX5_better_10 rfl (lv_at hl 0 rfl) ?_
    refine gx_X5_19_1090 (v := (σ.2.1 1091)) E hX hD hP rfl dX5_better_11 ?_
    refine W.lcmp hx hb dX5_better_14 ?_
    have J27 : xo_X5_better_TF_J27 x3 = some r_ → ∀ (H : Heap) (locs : List Loc), PIC D clsA G dsc ad σ H → va_S A s.heap H locs → ∀ (ls : Array Slot), lv_has ls 5 [(3, .long x3)] → W p l e rmX5_better_TF s m args below meth c0 H locs 0 0 Q (F0 m 27 ls []) := by
      intro  hf H locs hP hS ls hl
      unfold xo_X5_better_TF_J27 at hf
      refine lv_lload_n hx hb dX5_better_27 rfl (lv_at hl 0 rfl) ?_
      refine lv_goto (tgt := 32) hx hb dX5_better_28 (by decide) ?_
      cases hf
      rw [hQ]; exact g_lret hx hb hr hlk hP hS dX5_better_32
    refine lv_if_eq (tgt := 27) hx hb dX5_better_15 (by decide) (fun c2 => ?_) (fun c2 => ?_)
    · have hf := ifT ((lgc_eq _ _).mp c2) hf
      exact J27  hf H locs hP hS ls (lv_sub hl [2] rfl)
    · have hf := ifF (mt (lgc_eq _ _).mpr c2) hf
      refine lv_aload_n hx hb dX5_better_18 rfl (lv_at hl 0 rfl) ?_
      refine lv_lload_n hx hb dX5_better_19 rfl (lv_at hl 2 rfl) ?_
      refine lv_lload_n hx hb dX5_better_20 rfl (lv_at hl 1 rfl) ?_
      obtain ⟨v3, u4, hf⟩ := bdP hf
      refine cx_X5_98_X8_isBetter_TF E hX hD hP hS hA (kxX8_isBetter_TF l D G hD u4) ⟨rfl, rfl⟩ ⟨Nat.le_of_ble_eq_true rfl, Nat.le_of_ble_eq_true rfl⟩ ⟨Nat.zero_le _, Nat.zero_le _⟩ hl.1 (Nat.le_of_ble_eq_true rfl) dX5_better_21 (fun H locs hP hS => ?_)
      refine lv_if_eq (tgt := 31) hx hb dX5_better_24 (by decide) (fun c5 => ?_) (fun c5 => ?_)
      · have hf := ifT c5 hf
        exact J31  hf H locs hP hS ls (lv_sub hl [1] rfl)
      · have hf := ifF c5 hf
        exact J27  hf H locs hP hS ls (lv_sub hl [2] rfl)
theorem kxX5_better_TF (l : Launch) (D : va_G) (G : Nat → ClassId) {dsc : Nat → Option Dsc} {ad : Nat → Nat} {σ : Sto} {nr nw nu : Nat} (hD : XD dsc nr nw nu) {x1 : Int64} {x3 : Int64} {r_ : Int64} {z_TF_none : Int64} (e_zL1091 : σ.2.1 1091 = z_TF_none) (hf : xo_X5_better_TF z_TF_none x1 x3 = some r_) : CtG l D G dsc ad yX5_better (ws_ yX5_better cX5_better 5 (Option.some Jvm.ClassFile.FieldType.long)) rmX5_better_TF [.ref (ad 1090), .long x1, .long x3] σ (some (.long r_)) σ := by
  subst e_zL1091
  exact p_ctG (by decide +kernel) (Nat.le_of_ble_eq_true rfl) (fun p e s m below meth c0 ls A E hP hX hA hS hl => wkX5_better_TF E hX hD hA hf rfl hP hS hl)
theorem cx_X5_88_X5_better_TF {rm : Room} {σ1 : Sto} {x1 : Int64} {x3 : Int64} {r : Int64} (E : EN p s m args meth c0 RX5 cc nL ret) (hX : KX D G ad A s s.heap) (hD : XD dsc nr nw nu) (hP : PIC D clsA G dsc ad σ H) (hS : va_S A s.heap H locs) (hA : ∀ q, PA dsc ad s.heap.size q → A q) (hM : CtG l D G dsc ad yX5_better (ws_ yX5_better cX5_better 5 (Option.some Jvm.ClassFile.FieldType.long)) rm [.ref (ad 1090), .long x1, .long x3] σ (some (.long r)) σ1) (hz : rm.cells = 0 ∧ rm.slots = 0) (hR : rm.frames + 1 ≤ R.frames ∧ 8 + (5 + 11) + rm.locals ≤ R.locals) (hcs : cells ≤ R.cells ∧ slots ≤ R.slots) (hsz : ls.size = nL) (hW : (rest.map fun v => v.category).sum ≤ 8) (hdg : decode cc pc = .ok (.invokevirtual 88, 3)) (kk : ∀ (H1 : Heap) (locs1 : List Loc), PIC D clsA G dsc ad σ1 H1 → va_S A s.heap H1 locs1 → W p l e R s m args below meth c0 H1 locs1 cells slots Q (F0 m (pc + 3) ls (.long r :: rest))) : W p l e R s m args below meth c0 H locs cells slots Q (F0 m pc ls (.long x3 :: .long x1 :: .ref (ad 1090) :: rest)) :=
  p_gU (As := [.long x1, .long x3]) (rest := rest) E.1 hX hP hS hA hM (cw_any (owner := "ShutPasses$Table") (x := ⟨"ShutPasses$Table", "better", "(JJ)J"⟩) (y := yX5_better) (C := "ShutPasses$Spare") (index := 88) (own := RX5) 2 E.1.2.2.2.2 (lw_meth q1170) rfl hz.1 hz.2 (E.1.2.2.2.2 _ q1167) (E.1.2.2.2.2 _ q2282) (va_Decl.of (E.1.2.2.2.2 _ q1169) (E.1.2.2.2.2 _ q1170)) (va_Nw.use rfl (hX.2.1.2 ("ShutPasses$Spare", yX5_better) (by decide +kernel))) (E.1.2.2.2.2 _ q1169) (E.1.2.2.2.2 _ q131) (by decide +kernel) hR) (hD.1 _ _ dX_1090) rfl rfl rfl hsz rfl hW hdg hcs kk
/-! X5_betters_TF (II)Z -/
def sgX5_betters_TF (σ : Sto) (w0 : Nat → Int64) : Sto := aL σ 1153 w0
theorem sgX5_betters_TF_self (σ : Sto) : sgX5_betters_TF σ (σ.2.2.2.1 1153) = σ := by
  unfold sgX5_betters_TF
  simp only [zI_self, zL_self, aI_self, aL_self]
theorem sgX5_betters_TF_aL1153 {σ : Sto} {w0 : Nat → Int64} {g : Nat → Int64} : aL (sgX5_betters_TF σ w0) 1153 g = sgX5_betters_TF σ g := aL_aL _ 1153 _ _
theorem sgX5_betters_TF_rzI1092 {σ : Sto} {w0 : Nat → Int64} : (sgX5_betters_TF σ w0).1 1092 = σ.1 1092 := rfl
theorem sgX5_betters_TF_rzI1094 {σ : Sto} {w0 : Nat → Int64} : (sgX5_betters_TF σ w0).1 1094 = σ.1 1094 := rfl
theorem sgX5_betters_TF_rzI1095 {σ : Sto} {w0 : Nat → Int64} : (sgX5_betters_TF σ w0).1 1095 = σ.1 1095 := rfl
theorem sgX5_betters_TF_rzI2008 {σ : Sto} {w0 : Nat → Int64} : (sgX5_betters_TF σ w0).1 2008 = σ.1 2008 := rfl
theorem sgX5_betters_TF_rzI2013 {σ : Sto} {w0 : Nat → Int64} : (sgX5_betters_TF σ w0).1 2013 = σ.1 2013 := rfl
theorem sgX5_betters_TF_rzI2027 {σ : Sto} {w0 : Nat → Int64} : (sgX5_betters_TF σ w0).1 2027 = σ.1 2027 := rfl
theorem sgX5_betters_TF_rzI2032 {σ : Sto} {w0 : Nat → Int64} : (sgX5_betters_TF σ w0).1 2032 = σ.1 2032 := rfl
theorem sgX5_betters_TF_rzL1091 {σ : Sto} {w0 : Nat → Int64} : (sgX5_betters_TF σ w0).2.1 1091 = σ.2.1 1091 := rfl
theorem sgX5_betters_TF_raI1108 {σ : Sto} {w0 : Nat → Int64} : (sgX5_betters_TF σ w0).2.2.1 1108 = σ.2.2.1 1108 := rfl
theorem sgX5_betters_TF_raI1170 {σ : Sto} {w0 : Nat → Int64} : (sgX5_betters_TF σ w0).2.2.1 1170 = σ.2.2.1 1170 := rfl
theorem sgX5_betters_TF_raI2037 {σ : Sto} {w0 : Nat → Int64} : (sgX5_betters_TF σ w0).2.2.1 2037 = σ.2.2.1 2037 := rfl
theorem sgX5_betters_TF_raI2043 {σ : Sto} {w0 : Nat → Int64} : (sgX5_betters_TF σ w0).2.2.1 2043 = σ.2.2.1 2043 := rfl
theorem sgX5_betters_TF_raL1140 {σ : Sto} {w0 : Nat → Int64} : (sgX5_betters_TF σ w0).2.2.2.1 1140 = σ.2.2.2.1 1140 := rfl
theorem sgX5_betters_TF_raL1141 {σ : Sto} {w0 : Nat → Int64} : (sgX5_betters_TF σ w0).2.2.2.1 1141 = σ.2.2.2.1 1141 := rfl
theorem sgX5_betters_TF_raL1153 {σ : Sto} {w0 : Nat → Int64} : (sgX5_betters_TF σ w0).2.2.2.1 1153 = w0 := rfl
theorem sgX5_betters_TF_rpR2 {σ : Sto} {w0 : Nat → Int64} : (fun k => (sgX5_betters_TF σ w0).1 (6000 + 16 * k + 2)) = (fun k => σ.1 (6000 + 16 * k + 2)) := by
  funext k
  unfold sgX5_betters_TF
  dsimp only [zI, zL, aI, aL]
  repeat rw [if_neg (by omega)]
theorem sgX5_betters_TF_rpR5 {σ : Sto} {w0 : Nat → Int64} : (fun k => (sgX5_betters_TF σ w0).1 (6000 + 16 * k + 5)) = (fun k => σ.1 (6000 + 16 * k + 5)) := by
  funext k
  unfold sgX5_betters_TF
  dsimp only [zI, zL, aI, aL]
  repeat rw [if_neg (by omega)]
theorem sgX5_betters_TF_rpR6 {σ : Sto} {w0 : Nat → Int64} : (fun k => (sgX5_betters_TF σ w0).1 (6000 + 16 * k + 6)) = (fun k => σ.1 (6000 + 16 * k + 6)) := by
  funext k
  unfold sgX5_betters_TF
  dsimp only [zI, zL, aI, aL]
  repeat rw [if_neg (by omega)]
theorem sgX5_betters_TF_rpW0 {σ : Sto} {w0 : Nat → Int64} : (fun k => (sgX5_betters_TF σ w0).1 (8000 + 16 * k + 0)) = (fun k => σ.1 (8000 + 16 * k + 0)) := by
  funext k
  unfold sgX5_betters_TF
  dsimp only [zI, zL, aI, aL]
  repeat rw [if_neg (by omega)]
theorem sgX5_betters_TF_rpW1 {σ : Sto} {w0 : Nat → Int64} : (fun k => (sgX5_betters_TF σ w0).1 (8000 + 16 * k + 1)) = (fun k => σ.1 (8000 + 16 * k + 1)) := by
  funext k
  unfold sgX5_betters_TF
  dsimp only [zI, zL, aI, aL]
  repeat rw [if_neg (by omega)]
theorem sgX5_betters_TF_rpW2 {σ : Sto} {w0 : Nat → Int64} : (fun k => (sgX5_betters_TF σ w0).1 (8000 + 16 * k + 2)) = (fun k => σ.1 (8000 + 16 * k + 2)) := by
  funext k
  unfold sgX5_betters_TF
  dsimp only [zI, zL, aI, aL]
  repeat rw [if_neg (by omega)]
theorem sgX5_betters_TF_rgG0 {σ : Sto} {w0 : Nat → Int64} : (fun k => (sgX5_betters_TF σ w0).2.2.1 (4000 + 16 * k)) = (fun k => σ.2.2.1 (4000 + 16 * k)) := by
  funext k
  unfold sgX5_betters_TF
  dsimp only [zI, zL, aI, aL]
  repeat rw [if_neg (by omega)]
abbrev rmX5_betters_TF : Room := { frames := 46, cells := 0, slots := 0, locals := 1264 }
set_option maxHeartbeats 4000000 in
theorem wkX5_betters_TF {x1 : Int32} {x2 : Int32} {r_ : Int32} {w_aL1153 : Nat → Int64} (E : EN p s m args meth c0 RX5 cX5_betters 8 (Option.some Jvm.ClassFile.FieldType.boolean)) (hX : KX D G ad A s s.heap) (hD : XD dsc nr nw nu) (hA : ∀ q, PA dsc ad s.heap.size q → A q) (hf : xo_X5_betters_TF (σ.1 1092) (σ.1 1094) (σ.1 1095) (σ.1 2008) (σ.1 2013) (σ.1 2027) (σ.1 2032) (σ.2.1 1091) (σ.2.2.1 1108) (σ.2.2.1 1170) (σ.2.2.1 2037) (σ.2.2.1 2043) (σ.2.2.2.1 1140) (σ.2.2.2.1 1141) (σ.2.2.2.1 1153) nr nw (fun k => σ.1 (6000 + 16 * k + 2)) (fun k => σ.1 (6000 + 16 * k + 5)) (fun k => σ.1 (6000 + 16 * k + 6)) (fun k => σ.1 (8000 + 16 * k + 0)) (fun k => σ.1 (8000 + 16 * k + 1)) (fun k => σ.1 (8000 + 16 * k + 2)) (fun k => σ.2.2.1 (4000 + 16 * k)) x1 x2 = some (r_, w_aL1153)) (hQ : Q = MQ below (va_G1 (some (.int r_)) (fun t => PIC D clsA G dsc ad (sgX5_betters_TF σ w_aL1153) t.heap) A) args s 0 0 A) (hP : PIC D clsA G dsc ad σ H) (hS : va_S A s.heap H locs) (hl : lv_has ls 8 [(0, .ref (ad 1090)), (1, .int x1), (2, .int x2)]) : W p l e rmX5_betters_TF s m args below meth c0 H locs 0 0 Q (F0 m 0 ls []) := by
  obtain ⟨⟨hx, hb, hml, hown, hts⟩, hr, hlk⟩ := id E
  have hP := hP.to (sgX5_betters_TF_self σ).symm
  unfold xo_X5_betters_TF at hf
  refine lv_aload_n hx hb dX5_betters_0 rfl (lv_at hl 0 rfl) ?_
  refine lv_iload_n hx hb dX5_betters_1 rfl (lv_at hl 1 rfl) ?_
  refine lv_iload_n hx hb dX5_betters_2 rfl (lv_at hl 2 rfl) ?_
  obtain ⟨v1, u2, hf⟩ := bdP hf
  refine cx_X5_81_X5_value_TF E hX hD hP hS hA (kxX5_value_TF l D G hD sgX5_betters_TF_raL1153 u2) ⟨rfl, rfl⟩ ⟨Nat.le_of_ble_eq_true rfl, Nat.le_of_ble_eq_true rfl⟩ ⟨Nat.zero_le _, Nat.zero_le _⟩ hl.1 (Nat.le_of_ble_eq_true rfl) dX5_betters_3 (fun H locs hP hS => ?_)
  refine lv_lstore_n (lv' := [(3, .long v1), (0, .ref (ad 1090)), (1, .int x1), (2, .int x2)]) hx hb dX5_betters_6 rfl hl (by decide) rfl (fun ls hl => ?_)
  refine lv_lload_n hx hb dX5_betters_7 rfl (lv_at hl 0 rfl) ?_
  refine lv_lstore (lv' := [(5, .long v1), (3, .long v1), (0, .ref (ad 1090)), (1, .int x1), (2, .int x2)]) hx hb dX5_betters_8 hl (by decide) rfl (fun ls hl => ?_)
  refine lv_iconst hx hb dX5_betters_10 ic_0 ?_
  refine lv_istore (lv' := [(7, .int 0), (5, .long v1), (3, .long v1), (0, .ref (ad 1090)), (1, .int x1), (2, .int x2)]) hx hb dX5_betters_11 hl (by decide) rfl (fun ls hl => ?_)
  have LP13 : ∀ (st13 : Int64 × Int32) (ex13 : (Int64)), loop (xo_X5_betters_TF_L13 (σ.1 1092) (σ.1 1094) (σ.1 1095) (σ.1 2008) (σ.1 2013) (σ.1 2027) (σ.2.1 1091) (σ.2.2.1 1108) (σ.2.2.1 1170) (σ.2.2.1 2043) (σ.2.2.2.1 1140) (σ.2.2.2.1 1141) (σ.2.2.2.1 1153) nr (fun k => σ.1 (6000 + 16 * k + 2)) (fun k => σ.1 (6000 + 16 * k + 5)) (fun k => σ.1 (6000 + 16 * k + 6)) (fun k => σ.2.2.1 (4000 + 16 * k)) x1 x2) st13 = some ex13 → ∀ (H : Heap) (locs : List Loc), PIC D clsA G dsc ad (sgX5_betters_TF σ (σ.2.2.2.1 1153)) H → va_S A s.heap H locs → ∀ (ls : Array Slot), lv_has ls 8 [(0, .ref (ad 1090)), (1, .int x1), (2, .int x2), (3, .long v1), (5, .long (st13.1)), (7, .int (st13.2))] → (∀ (y11 : Int64), ex13 = y11 → ∀ (H : Heap) (locs : List Loc), PIC D clsA G dsc ad (sgX5_betters_TF σ (σ.2.2.2.1 1153)) H → va_S A s.heap H locs → ∀ (ls : Array Slot), lv_has ls 8 [(0, .ref (ad 1090)), (1, .int x1), (2, .int x2), (3, .long v1), (5, .long y11)] → W p l e rmX5_betters_TF s m args below meth c0 H locs 0 0 Q (F0 m 50 ls [])) → W p l e rmX5_betters_TF s m args below meth c0 H locs 0 0 Q (F0 m 13 ls []) := by
    refine loop_P (fun st13 ex13 o13 hf ih13 hx13 => ?_)
    obtain ⟨y3, y4⟩ := st13
    intro H locs (hP : PIC D clsA G dsc ad (sgX5_betters_TF σ (σ.2.2.2.1 1153)) H) hS ls (hl : lv_has ls 8 [(0, .ref (ad 1090)), (1, .int x1), (2, .int x2), (3, .long v1), (5, .long y3), (7, .int y4)]) KE13_0
    dsimp only [xo_X5_betters_TF_L13] at hf
    refine lv_iload hx hb dX5_betters_13 (lv_at hl 5 rfl) ?_
    refine lv_aload_n hx hb dX5_betters_15 rfl (lv_at hl 0 rfl) ?_
    refine gx_X5_3_1090 E hX hD hP dX5_betters_16 ?_
    refine gx_X5_27_1000 E hX hD hP dX5_betters_19 ?_
    refine gx_X5_63_2000 (v := (σ.1 2008)) E hX hD hP sgX5_betters_TF_rzI2008 dX5_betters_22 ?_
    refine lv_icmp_ge (tgt := 50) hx hb dX5_betters_25 (by decide) (fun c5 => ?_) (fun c5 => ?_)
    · have hf := ifT c5 hf
      exact KE13_0 _ (hx13 _ (Option.some.inj hf).symm).symm H locs hP hS ls (lv_sub hl [0, 1, 2, 3, 4] rfl)
    · have hf := ifF c5 hf
      refine lv_aload_n hx hb dX5_betters_28 rfl (lv_at hl 0 rfl) ?_
      refine lv_lload hx hb dX5_betters_29 (lv_at hl 4 rfl) ?_
      refine lv_aload_n hx hb dX5_betters_31 rfl (lv_at hl 0 rfl) ?_
      refine lv_iload_n hx hb dX5_betters_32 rfl (lv_at hl 1 rfl) ?_
      refine lv_iload hx hb dX5_betters_33 (lv_at hl 5 rfl) ?_
      refine lv_iload_n hx hb dX5_betters_35 rfl (lv_at hl 2 rfl) ?_
      obtain ⟨v6, u7, hf⟩ := bdP hf
      refine cx_X5_84_X5_going_TF E hX hD hP hS hA (kxX5_going_TF l D G hD sgX5_betters_TF_rzI1092 sgX5_betters_TF_rzI1094 sgX5_betters_TF_rzI1095 sgX5_betters_TF_rzI2013 sgX5_betters_TF_rzI2027 sgX5_betters_TF_rzL1091 sgX5_betters_TF_raI1108 sgX5_betters_TF_raI1170 sgX5_betters_TF_raI2043 sgX5_betters_TF_raL1140 sgX5_betters_TF_raL1141 sgX5_betters_TF_raL1153 rfl sgX5_betters_TF_rpR2 sgX5_betters_TF_rpR5 sgX5_betters_TF_rpR6 sgX5_betters_TF_rgG0 u7) ⟨rfl, rfl⟩ ⟨Nat.le_of_ble_eq_true rfl, Nat.le_of_ble_eq_true rfl⟩ ⟨Nat.zero_le _, Nat.zero_le _⟩ hl.1 (Nat.le_of_ble_eq_true rfl) dX5_betters_36 (fun H locs hP hS => ?_)
      obtain ⟨v8, u9, hf⟩ := bdP hf
      refine cx_X5_88_X5_better_TF E hX hD hP hS hA (kxX5_better_TF l D G hD sgX5_betters_TF_rzL1091 u9) ⟨rfl, rfl⟩ ⟨Nat.le_of_ble_eq_true rfl, Nat.le_of_ble_eq_true rfl⟩ ⟨Nat.zero_le _, Nat.zero_le _⟩ hl.1 (Nat.le_of_ble_eq_true rfl) dX5_betters_39 (fun H locs hP hS => ?_)
      refine lv_lstore (lv' := [(5, .long v8), (0, .ref (ad 1090)), (1, .int x1), (2, .int x2), (3, .long v1), (7, .int y4)]) hx hb dX5_betters_42 hl (by decide) rfl (fun ls hl => ?_)
      obtain ⟨v10, hv10, hf⟩ := bdP hf
      refine lv_iinc (v := v10) (lv' := [(7, .int v10), (5, .long v8), (0, .ref (ad 1090)), (1, .int x1), (2, .int x2), (3, .long v1)]) hx hb dX5_betters_44 hl (k := 5) rfl (Option.some.inj hv10) (by decide) rfl (fun ls hl => ?_)
      refine lv_goto (tgt := 13) hx hb dX5_betters_47 (by decide) ?_
      exact ih13 _ (Option.some.inj hf).symm H locs hP hS ls (lv_sub hl [2, 3, 4, 5, 1, 0] rfl) KE13_0
  obtain ⟨ex13, hlp13, hf⟩ := bdP hf
  refine LP13 (v1, 0) ex13 hlp13 H locs hP hS ls (lv_sub hl [3, 4, 5, 2, 1, 0] rfl) ?_
  intro y11 hex13 H locs hP hS ls hl
  subst ex13
  refine lv_iconst hx hb dX5_betters_50 ic_0 ?_
  refine lv_istore (lv' := [(7, .int 0), (0, .ref (ad 1090)), (1, .int x1), (2, .int x2), (3, .long v1), (5, .long y11)]) hx hb dX5_betters_51 hl (by decide) rfl (fun ls hl => ?_)
  have LP53 : ∀ (st53 : Int64 × Int32) (ex53 : (Int64)), loop (xo_X5_betters_TF_L53 (σ.1 1092) (σ.1 1094) (σ.1 1095) (σ.1 2013) (σ.1 2027) (σ.1 2032) (σ.2.1 1091) (σ.2.2.1 1108) (σ.2.2.1 1170) (σ.2.2.1 2037) (σ.2.2.1 2043) (σ.2.2.2.1 1140) (σ.2.2.2.1 1141) (σ.2.2.2.1 1153) nw (fun k => σ.1 (8000 + 16 * k + 0)) (fun k => σ.1 (8000 + 16 * k + 1)) (fun k => σ.1 (8000 + 16 * k + 2)) x1 x2) st53 = some ex53 → ∀ (H : Heap) (locs : List Loc), PIC D clsA G dsc ad (sgX5_betters_TF σ (σ.2.2.2.1 1153)) H → va_S A s.heap H locs → ∀ (ls : Array Slot), lv_has ls 8 [(0, .ref (ad 1090)), (1, .int x1), (2, .int x2), (3, .long v1), (5, .long (st53.1)), (7, .int (st53.2))] → (∀ (y22 : Int64), ex53 = y22 → ∀ (H : Heap) (locs : List Loc), PIC D clsA G dsc ad (sgX5_betters_TF σ (σ.2.2.2.1 1153)) H → va_S A s.heap H locs → ∀ (ls : Array Slot), lv_has ls 8 [(0, .ref (ad 1090)), (1, .int x1), (2, .int x2), (3, .long v1), (5, .long y22)] → W p l e rmX5_betters_TF s m args below meth c0 H locs 0 0 Q (F0 m 93 ls [])) → W p l e rmX5_betters_TF s m args below meth c0 H locs 0 0 Q (F0 m 53 ls []) := by
    refine loop_P (fun st53 ex53 o53 hf ih53 hx53 => ?_)
    obtain ⟨y12, y13⟩ := st53
    intro H locs (hP : PIC D clsA G dsc ad (sgX5_betters_TF σ (σ.2.2.2.1 1153)) H) hS ls (hl : lv_has ls 8 [(0, .ref (ad 1090)), (1, .int x1), (2, .int x2), (3, .long v1), (5, .long y12), (7, .int y13)]) KE53_0
    dsimp only [xo_X5_betters_TF_L53] at hf
    refine lv_iload hx hb dX5_betters_53 (lv_at hl 5 rfl) ?_
    refine lv_aload_n hx hb dX5_betters_55 rfl (lv_at hl 0 rfl) ?_
    refine gx_X5_3_1090 E hX hD hP dX5_betters_56 ?_
    refine gx_X5_27_1000 E hX hD hP dX5_betters_59 ?_
    refine gx_X5_92_2000 E hX hD hP dX5_betters_62 ?_
    obtain ⟨v14, u15, hf⟩ := bdP hf
    refine cx_X5_37_J2_size_Lw E hX hD hP hS hA (kxJ2_size_Lw l D G hD sgX5_betters_TF_rzI2032 u15) ⟨rfl, rfl⟩ ⟨Nat.le_of_ble_eq_true rfl, Nat.le_of_ble_eq_true rfl⟩ ⟨Nat.zero_le _, Nat.zero_le _⟩ hl.1 (Nat.le_of_ble_eq_true rfl) dX5_betters_65 (fun H locs hP hS => ?_)
    refine lv_icmp_ge (tgt := 93) hx hb dX5_betters_68 (by decide) (fun c16 => ?_) (fun c16 => ?_)
    · have hf := ifT c16 hf
      exact KE53_0 _ (hx53 _ (Option.some.inj hf).symm).symm H locs hP hS ls (lv_sub hl [0, 1, 2, 3, 4] rfl)
    · have hf := ifF c16 hf
      refine lv_aload_n hx hb dX5_betters_71 rfl (lv_at hl 0 rfl) ?_
      refine lv_lload hx hb dX5_betters_72 (lv_at hl 4 rfl) ?_
      refine lv_aload_n hx hb dX5_betters_74 rfl (lv_at hl 0 rfl) ?_
      refine lv_iload_n hx hb dX5_betters_75 rfl (lv_at hl 1 rfl) ?_
      refine lv_iload hx hb dX5_betters_76 (lv_at hl 5 rfl) ?_
      refine lv_iload_n hx hb dX5_betters_78 rfl (lv_at hl 2 rfl) ?_
      obtain ⟨v17, u18, hf⟩ := bdP hf
      refine cx_X5_95_X5_buying_TF E hX hD hP hS hA (kxX5_buying_TF l D G hD sgX5_betters_TF_rzI1092 sgX5_betters_TF_rzI1094 sgX5_betters_TF_rzI1095 sgX5_betters_TF_rzI2013 sgX5_betters_TF_rzI2027 sgX5_betters_TF_rzI2032 sgX5_betters_TF_rzL1091 sgX5_betters_TF_raI1108 sgX5_betters_TF_raI1170 sgX5_betters_TF_raI2037 sgX5_betters_TF_raI2043 sgX5_betters_TF_raL1140 sgX5_betters_TF_raL1141 sgX5_betters_TF_raL1153 rfl sgX5_betters_TF_rpW0 sgX5_betters_TF_rpW1 sgX5_betters_TF_rpW2 u18) ⟨rfl, rfl⟩ ⟨Nat.le_of_ble_eq_true rfl, Nat.le_of_ble_eq_true rfl⟩ ⟨Nat.zero_le _, Nat.zero_le _⟩ hl.1 (Nat.le_of_ble_eq_true rfl) dX5_betters_79 (fun H locs hP hS => ?_)
      obtain ⟨v19, u20, hf⟩ := bdP hf
      refine cx_X5_88_X5_better_TF E hX hD hP hS hA (kxX5_better_TF l D G hD sgX5_betters_TF_rzL1091 u20) ⟨rfl, rfl⟩ ⟨Nat.le_of_ble_eq_true rfl, Nat.le_of_ble_eq_true rfl⟩ ⟨Nat.zero_le _, Nat.zero_le _⟩ hl.1 (Nat.le_of_ble_eq_true rfl) dX5_betters_82 (fun H locs hP hS => ?_)
      refine lv_lstore (lv' := [(5, .long v19), (0, .ref (ad 1090)), (1, .int x1), (2, .int x2), (3, .long v1), (7, .int y13)]) hx hb dX5_betters_85 hl (by decide) rfl (fun ls hl => ?_)
      obtain ⟨v21, hv21, hf⟩ := bdP hf
      refine lv_iinc (v := v21) (lv' := [(7, .int v21), (5, .long v19), (0, .ref (ad 1090)), (1, .int x1), (2, .int x2), (3, .long v1)]) hx hb dX5_betters_87 hl (k := 5) rfl (Option.some.inj hv21) (by decide) rfl (fun ls hl => ?_)
      refine lv_goto (tgt := 53) hx hb dX5_betters_90 (by decide) ?_
      exact ih53 _ (Option.some.inj hf).symm H locs hP hS ls (lv_sub hl [2, 3, 4, 5, 1, 0] rfl) KE53_0
  obtain ⟨ex53, hlp53, hf⟩ := bdP hf
  refine LP53 (y11, 0) ex53 hlp53 H locs hP hS ls (lv_sub hl [1, 2, 3, 4, 5, 0] rfl) ?_
  intro y22 hex53 H locs hP hS ls hl
  subst ex53
  refine lv_aload_n hx hb dX5_betters_93 rfl (lv_at hl 0 rfl) ?_
  refine gx_X5_15_1090 E hX hD hP dX5_betters_94 ?_
  refine lv_bipush hx hb dX5_betters_97 bp_10 ?_
  refine lv_iload_n hx hb dX5_betters_99 rfl (lv_at hl 2 rfl) ?_
  refine lv_imul hx hb dX5_betters_100 ?_
  refine lv_iload_n hx hb dX5_betters_101 rfl (lv_at hl 1 rfl) ?_
  refine lv_iadd hx hb dX5_betters_102 ?_
  refine lv_lload hx hb dX5_betters_103 (lv_at hl 4 rfl) ?_
  obtain ⟨a23, ha23, hf⟩ := bdP hf
  refine p_last hx hb hX.1 hP hS (hA _ (PA_c (hD.1 _ _ dX_1153))) (hD.1 _ _ dX_1153) sgX5_betters_TF_raL1153 ha23 sgX5_betters_TF_aL1153 dX5_betters_105 (fun H locs hP hS => ?_)
  refine lv_lload hx hb dX5_betters_106 (lv_at hl 4 rfl) ?_
  refine lv_lload_n hx hb dX5_betters_108 rfl (lv_at hl 3 rfl) ?_
  refine W.lcmp hx hb dX5_betters_109 ?_
  refine lv_if_eq (tgt := 117) hx hb dX5_betters_110 (by decide) (fun c24 => ?_) (fun c24 => ?_)
  · have hf := ifT ((lgc_eq _ _).mp c24) hf
    refine lv_iconst hx hb dX5_betters_117 ic_0 ?_
    cases hf
    rw [hQ]; exact g_nret hx hb hr hlk hP hS rfl dX5_betters_118
  · have hf := ifF (mt (lgc_eq _ _).mpr c24) hf
    refine lv_iconst hx hb dX5_betters_113 ic_1 ?_
    refine lv_goto (tgt := 118) hx hb dX5_betters_114 (by decide) ?_
    cases hf
    rw [hQ]; exact g_nret hx hb hr hlk hP hS rfl dX5_betters_118
theorem kxX5_betters_TF (l : Launch) (D : va_G) (G : Nat → ClassId) {dsc : Nat → Option Dsc} {ad : Nat → Nat} {σ : Sto} {nr nw nu : Nat} (hD : XD dsc nr nw nu) {x1 : Int32} {x2 : Int32} {r_ : Int32} {w_aL1153 : Nat → Int64} {z_TF_by : Int32} (e_zI1092 : σ.1 1092 = z_TF_by) {z_TF_times : Int32} (e_zI1094 : σ.1 1094 = z_TF_times) {z_TF_of : Int32} (e_zI1095 : σ.1 1095 = z_TF_of) {z_L_places : Int32} (e_zI2008 : σ.1 2008 = z_L_places) {z_L_to : Int32} (e_zI2013 : σ.1 2013 = z_L_to) {z_Ld_size : Int32} (e_zI2027 : σ.1 2027 = z_Ld_size) {z_Lw_size : Int32} (e_zI2032 : σ.1 2032 = z_Lw_size) {z_TF_none : Int64} (e_zL1091 : σ.2.1 1091 = z_TF_none) {a_X_knowing : Nat → Int32} (e_aI1108 : σ.2.2.1 1108 = a_X_knowing) {a_UNIT : Nat → Int32} (e_aI1170 : σ.2.2.1 1170 = a_UNIT) {a_Lw_data : Nat → Int32} (e_aI2037 : σ.2.2.1 2037 = a_Lw_data) {a_L_seen : Nat → Int32} (e_aI2043 : σ.2.2.1 2043 = a_L_seen) {a_W_world : Nat → Int64} (e_aL1140 : σ.2.2.2.1 1140 = a_W_world) {a_W_likely : Nat → Int64} (e_aL1141 : σ.2.2.2.1 1141 = a_W_likely) {a_TF_value : Nat → Int64} (e_aL1153 : σ.2.2.2.1 1153 = a_TF_value) {n_r : Nat} (e_nN0 : nr = n_r) {n_w : Nat} (e_nN1 : nw = n_w) {p_road_hours : Nat → Int32} (e_pR2 : (fun k => σ.1 (6000 + 16 * k + 2)) = p_road_hours) {p_road_wait : Nat → Int32} (e_pR5 : (fun k => σ.1 (6000 + 16 * k + 5)) = p_road_wait) {p_road_number : Nat → Int32} (e_pR6 : (fun k => σ.1 (6000 + 16 * k + 6)) = p_road_number) {p_word_place : Nat → Int32} (e_pW0 : (fun k => σ.1 (8000 + 16 * k + 0)) = p_word_place) {p_word_road : Nat → Int32} (e_pW1 : (fun k => σ.1 (8000 + 16 * k + 1)) = p_word_road) {p_word_hours : Nat → Int32} (e_pW2 : (fun k => σ.1 (8000 + 16 * k + 2)) = p_word_hours) {g_grid : Nat → Nat → Int32} (e_gG0 : (fun k => σ.2.2.1 (4000 + 16 * k)) = g_grid) (hf : xo_X5_betters_TF z_TF_by z_TF_times z_TF_of z_L_places z_L_to z_Ld_size z_Lw_size z_TF_none a_X_knowing a_UNIT a_Lw_data a_L_seen a_W_world a_W_likely a_TF_value n_r n_w p_road_hours p_road_wait p_road_number p_word_place p_word_road p_word_hours g_grid x1 x2 = some (r_, w_aL1153)) : CtG l D G dsc ad yX5_betters (ws_ yX5_betters cX5_betters 8 (Option.some Jvm.ClassFile.FieldType.boolean)) rmX5_betters_TF [.ref (ad 1090), .int x1, .int x2] σ (some (.int r_)) (aL σ 1153 w_aL1153) := by
  subst e_zI1092
  subst e_zI1094
  subst e_zI1095
  subst e_zI2008
  subst e_zI2013
  subst e_zI2027
  subst e_zI2032
  subst e_zL1091
  subst e_aI1108
  subst e_aI1170
  subst e_aI2037
  subst e_aI2043
  subst e_aL1140
  subst e_aL1141
  subst e_aL1153
  subst e_nN0
  subst e_nN1
  subst e_pR2
  subst e_pR5
  subst e_pR6
  subst e_pW0
  subst e_pW1
  subst e_pW2
  subst e_gG0
  exact p_ctG (by decide +kernel) (Nat.le_of_ble_eq_true rfl) (fun p e s m below meth c0 ls A E hP hX hA hS hl => wkX5_betters_TF E hX hD hA hf rfl hP hS hl)
theorem cx_X5_77_X5_betters_TF {rm : Room} {σ1 : Sto} {x1 : Int32} {x2 : Int32} {r : Int32} (E : EN p s m args meth c0 RX5 cc nL ret) (hX : KX D G ad A s s.heap) (hD : XD dsc nr nw nu) (hP : PIC D clsA G dsc ad σ H) (hS : va_S A s.heap H locs) (hA : ∀ q, PA dsc ad s.heap.size q → A q) (hM : CtG l D G dsc ad yX5_betters (ws_ yX5_betters cX5_betters 8 (Option.some Jvm.ClassFile.FieldType.boolean)) rm [.ref (ad 1090), .int x1, .int x2] σ (some (.int r)) σ1) (hz : rm.cells = 0 ∧ rm.slots = 0) (hR : rm.frames + 1 ≤ R.frames ∧ 8 + (8 + 11) + rm.locals ≤ R.locals) (hcs : cells ≤ R.cells ∧ slots ≤ R.slots) (hsz : ls.size = nL) (hW : (rest.map fun v => v.category).sum ≤ 8) (hdg : decode cc pc = .ok (.invokevirtual 77, 3)) (kk : ∀ (H1 : Heap) (locs1 : List Loc), PIC D clsA G dsc ad σ1 H1 → va_S A s.heap H1 locs1 → W p l e R s m args below meth c0 H1 locs1 cells slots Q (F0 m (pc + 3) ls (.int r :: rest))) : W p l e R s m args below meth c0 H locs cells slots Q (F0 m pc ls (.int x2 :: .int x1 :: .ref (ad 1090) :: rest)) :=
  p_gU (As := [.int x1, .int x2]) (rest := rest) E.1 hX hP hS hA hM (cw_any (owner := "ShutPasses$Table") (x := ⟨"ShutPasses$Table", "betters", "(II)Z"⟩) (y := yX5_betters) (C := "ShutPasses$Spare") (index := 77) (own := RX5) 2 E.1.2.2.2.2 (lw_meth q1089) rfl hz.1 hz.2 (E.1.2.2.2.2 _ q1086) (E.1.2.2.2.2 _ q2279) (va_Decl.of (E.1.2.2.2.2 _ q1088) (E.1.2.2.2.2 _ q1089)) (va_Nw.use rfl (hX.2.1.2 ("ShutPasses$Spare", yX5_betters) (by decide +kernel))) (E.1.2.2.2.2 _ q1088) (E.1.2.2.2.2 _ q131) (by decide +kernel) hR) (hD.1 _ _ dX_1090) rfl rfl rfl hsz rfl hW hdg hcs kk
/-! X5_lay_2_TF (I)V -/
def sgX5_lay_2_TF (σ : Sto) (w0 : Nat → Int64) : Sto := aL σ 1153 w0
theorem sgX5_lay_2_TF_self (σ : Sto) : sgX5_lay_2_TF σ (σ.2.2.2.1 1153) = σ := by
  unfold sgX5_lay_2_TF
  simp only [zI_self, zL_self, aI_self, aL_self]
theorem sgX5_lay_2_TF_aL1153 {σ : Sto} {w0 : Nat → Int64} {g : Nat → Int64} : aL (sgX5_lay_2_TF σ w0) 1153 g = sgX5_lay_2_TF σ g := aL_aL _ 1153 _ _
theorem sgX5_lay_2_TF_rzI1092 {σ : Sto} {w0 : Nat → Int64} : (sgX5_lay_2_TF σ w0).1 1092 = σ.1 1092 := rfl
theorem sgX5_lay_2_TF_rzI1094 {σ : Sto} {w0 : Nat → Int64} : (sgX5_lay_2_TF σ w0).1 1094 = σ.1 1094 := rfl
theorem sgX5_lay_2_TF_rzI1095 {σ : Sto} {w0 : Nat → Int64} : (sgX5_lay_2_TF σ w0).1 1095 = σ.1 1095 := rfl
theorem sgX5_lay_2_TF_rzI2008 {σ : Sto} {w0 : Nat → Int64} : (sgX5_lay_2_TF σ w0).1 2008 = σ.1 2008 := rfl
theorem sgX5_lay_2_TF_rzI2013 {σ : Sto} {w0 : Nat → Int64} : (sgX5_lay_2_TF σ w0).1 2013 = σ.1 2013 := rfl
theorem sgX5_lay_2_TF_rzI2027 {σ : Sto} {w0 : Nat → Int64} : (sgX5_lay_2_TF σ w0).1 2027 = σ.1 2027 := rfl
theorem sgX5_lay_2_TF_rzI2032 {σ : Sto} {w0 : Nat → Int64} : (sgX5_lay_2_TF σ w0).1 2032 = σ.1 2032 := rfl
theorem sgX5_lay_2_TF_rzL1091 {σ : Sto} {w0 : Nat → Int64} : (sgX5_lay_2_TF σ w0).2.1 1091 = σ.2.1 1091 := rfl
theorem sgX5_lay_2_TF_raI1108 {σ : Sto} {w0 : Nat → Int64} : (sgX5_lay_2_TF σ w0).2.2.1 1108 = σ.2.2.1 1108 := rfl
theorem sgX5_lay_2_TF_raI1170 {σ : Sto} {w0 : Nat → Int64} : (sgX5_lay_2_TF σ w0).2.2.1 1170 = σ.2.2.1 1170 := rfl
theorem sgX5_lay_2_TF_raI2037 {σ : Sto} {w0 : Nat → Int64} : (sgX5_lay_2_TF σ w0).2.2.1 2037 = σ.2.2.1 2037 := rfl
theorem sgX5_lay_2_TF_raI2043 {σ : Sto} {w0 : Nat → Int64} : (sgX5_lay_2_TF σ w0).2.2.1 2043 = σ.2.2.1 2043 := rfl
theorem sgX5_lay_2_TF_raL1140 {σ : Sto} {w0 : Nat → Int64} : (sgX5_lay_2_TF σ w0).2.2.2.1 1140 = σ.2.2.2.1 1140 := rfl
theorem sgX5_lay_2_TF_raL1141 {σ : Sto} {w0 : Nat → Int64} : (sgX5_lay_2_TF σ w0).2.2.2.1 1141 = σ.2.2.2.1 1141 := rfl
theorem sgX5_lay_2_TF_raL1153 {σ : Sto} {w0 : Nat → Int64} : (sgX5_lay_2_TF σ w0).2.2.2.1 1153 = w0 := rfl
theorem sgX5_lay_2_TF_rpR2 {σ : Sto} {w0 : Nat → Int64} : (fun k => (sgX5_lay_2_TF σ w0).1 (6000 + 16 * k + 2)) = (fun k => σ.1 (6000 + 16 * k + 2)) := by
  funext k
  unfold sgX5_lay_2_TF
  dsimp only [zI, zL, aI, aL]
  repeat rw [if_neg (by omega)]
theorem sgX5_lay_2_TF_rpR5 {σ : Sto} {w0 : Nat → Int64} : (fun k => (sgX5_lay_2_TF σ w0).1 (6000 + 16 * k + 5)) = (fun k => σ.1 (6000 + 16 * k + 5)) := by
  funext k
  unfold sgX5_lay_2_TF
  dsimp only [zI, zL, aI, aL]
  repeat rw [if_neg (by omega)]
theorem sgX5_lay_2_TF_rpR6 {σ : Sto} {w0 : Nat → Int64} : (fun k => (sgX5_lay_2_TF σ w0).1 (6000 + 16 * k + 6)) = (fun k => σ.1 (6000 + 16 * k + 6)) := by
  funext k
  unfold sgX5_lay_2_TF
  dsimp only [zI, zL, aI, aL]
  repeat rw [if_neg (by omega)]
theorem sgX5_lay_2_TF_rpW0 {σ : Sto} {w0 : Nat → Int64} : (fun k => (sgX5_lay_2_TF σ w0).1 (8000 + 16 * k + 0)) = (fun k => σ.1 (8000 + 16 * k + 0)) := by
  funext k
  unfold sgX5_lay_2_TF
  dsimp only [zI, zL, aI, aL]
  repeat rw [if_neg (by omega)]
theorem sgX5_lay_2_TF_rpW1 {σ : Sto} {w0 : Nat → Int64} : (fun k => (sgX5_lay_2_TF σ w0).1 (8000 + 16 * k + 1)) = (fun k => σ.1 (8000 + 16 * k + 1)) := by
  funext k
  unfold sgX5_lay_2_TF
  dsimp only [zI, zL, aI, aL]
  repeat rw [if_neg (by omega)]
theorem sgX5_lay_2_TF_rpW2 {σ : Sto} {w0 : Nat → Int64} : (fun k => (sgX5_lay_2_TF σ w0).1 (8000 + 16 * k + 2)) = (fun k => σ.1 (8000 + 16 * k + 2)) := by
  funext k
  unfold sgX5_lay_2_TF
  dsimp only [zI, zL, aI, aL]
  repeat rw [if_neg (by omega)]
theorem sgX5_lay_2_TF_rgG0 {σ : Sto} {w0 : Nat → Int64} : (fun k => (sgX5_lay_2_TF σ w0).2.2.1 (4000 + 16 * k)) = (fun k => σ.2.2.1 (4000 + 16 * k)) := by
  funext k
  unfold sgX5_lay_2_TF
  dsimp only [zI, zL, aI, aL]
  repeat rw [if_neg (by omega)]
abbrev rmX5_lay_2_TF : Room := { frames := 47, cells := 0, slots := 0, locals := 1291 }
set_option maxHeartbeats 4000000 in
theorem wkX5_lay_2_TF {x1 : Int32} {w_aL1153 : Nat → Int64} (E : EN p s m args meth c0 RX5 cX5_lay_2 4 (Option.none : Option Jvm.ClassFile.FieldType)) (hX : KX D G ad A s s.heap) (hD : XD dsc nr nw nu) (hA : ∀ q, PA dsc ad s.heap.size q → A q) (hf : xo_X5_lay_2_TF (σ.1 1092) (σ.1 1094) (σ.1 1095) (σ.1 2008) (σ.1 2013) (σ.1 2027) (σ.1 2032) (σ.2.1 1091) (σ.2.2.1 1108) (σ.2.2.1 1170) (σ.2.2.1 2037) (σ.2.2.1 2043) (σ.2.2.2.1 1140) (σ.2.2.2.1 1141) (σ.2.2.2.1 1153) nr nw (fun k => σ.1 (6000 + 16 * k + 2)) (fun k => σ.1 (6000 + 16 * k + 5)) (fun k => σ.1 (6000 + 16 * k + 6)) (fun k => σ.1 (8000 + 16 * k + 0)) (fun k => σ.1 (8000 + 16 * k + 1)) (fun k => σ.1 (8000 + 16 * k + 2)) (fun k => σ.2.2.1 (4000 + 16 * k)) x1 = some w_aL1153) (hQ : Q = MQ below (va_G1 none (fun t => PIC D clsA G dsc ad (sgX5_lay_2_TF σ w_aL1153) t.heap) A) args s 0 0 A) (hP : PIC D clsA G dsc ad σ H) (hS : va_S A s.heap H locs) (hl : lv_has ls 4 [(0, .ref (ad 1090)), (1, .int x1)]) : W p l e rmX5_lay_2_TF s m args below meth c0 H locs 0 0 Q (F0 m 0 ls []) := by
  obtain ⟨⟨hx, hb, hml, hown, hts⟩, hr, hlk⟩ := id E
  have hP := hP.to (sgX5_lay_2_TF_self σ).symm
  unfold xo_X5_lay_2_TF at hf
  refine lv_iconst hx hb dX5_lay_2_0 ic_0 ?_
  refine lv_istore_n (lv' := [(2, .int 0), (0, .ref (ad 1090)), (1, .int x1)]) hx hb dX5_lay_2_1 rfl hl (by decide) rfl (fun ls hl => ?_)
  have LP2 : ∀ (st2 : Int32 × (Nat → Int64)) (ex2 : ((Nat → Int64))), loop (xo_X5_lay_2_TF_L2 (σ.1 1092) (σ.1 1094) (σ.1 1095) (σ.1 2008) (σ.1 2013) (σ.1 2027) (σ.2.1 1091) (σ.2.2.1 1108) (σ.2.2.1 1170) (σ.2.2.2.1 1140) x1) st2 = some ex2 → ∀ (H : Heap) (locs : List Loc), PIC D clsA G dsc ad (sgX5_lay_2_TF σ (st2.2)) H → va_S A s.heap H locs → ∀ (ls : Array Slot), lv_has ls 4 [(0, .ref (ad 1090)), (1, .int x1), (2, .int (st2.1))] → (∀ (a11 : Nat → Int64), ex2 = a11 → ∀ (H : Heap) (locs : List Loc), PIC D clsA G dsc ad (sgX5_lay_2_TF σ a11) H → va_S A s.heap H locs → ∀ (ls : Array Slot), lv_has ls 4 [(0, .ref (ad 1090)), (1, .int x1)] → W p l e rmX5_lay_2_TF s m args below meth c0 H locs 0 0 Q (F0 m 59 ls [])) → W p l e rmX5_lay_2_TF s m args below meth c0 H locs 0 0 Q (F0 m 2 ls []) := by
    refine loop_P (fun st2 ex2 o2 hf ih2 hx2 => ?_)
    obtain ⟨y1, a2⟩ := st2
    intro H locs (hP : PIC D clsA G dsc ad (sgX5_lay_2_TF σ a2) H) hS ls (hl : lv_has ls 4 [(0, .ref (ad 1090)), (1, .int x1), (2, .int y1)]) KE2_0
    dsimp only [xo_X5_lay_2_TF_L2] at hf
    refine lv_iload_n hx hb dX5_lay_2_2 rfl (lv_at hl 2 rfl) ?_
    refine lv_aload_n hx hb dX5_lay_2_3 rfl (lv_at hl 0 rfl) ?_
    refine gx_X5_3_1090 E hX hD hP dX5_lay_2_4 ?_
    refine gx_X5_27_1000 E hX hD hP dX5_lay_2_7 ?_
    refine gx_X5_63_2000 (v := (σ.1 2008)) E hX hD hP sgX5_lay_2_TF_rzI2008 dX5_lay_2_10 ?_
    refine lv_icmp_ge (tgt := 59) hx hb dX5_lay_2_13 (by decide) (fun c3 => ?_) (fun c3 => ?_)
    · have hf := ifT c3 hf
      exact KE2_0 _ (hx2 _ (Option.some.inj hf).symm).symm H locs hP hS ls (lv_sub hl [0, 1] rfl)
    · have hf := ifF c3 hf
      refine lv_aload_n hx hb dX5_lay_2_16 rfl (lv_at hl 0 rfl) ?_
      refine gx_X5_15_1090 E hX hD hP dX5_lay_2_17 ?_
      refine lv_bipush hx hb dX5_lay_2_20 bp_10 ?_
      refine lv_iload_n hx hb dX5_lay_2_22 rfl (lv_at hl 1 rfl) ?_
      refine lv_imul hx hb dX5_lay_2_23 ?_
      refine lv_iload_n hx hb dX5_lay_2_24 rfl (lv_at hl 2 rfl) ?_
      refine lv_iadd hx hb dX5_lay_2_25 ?_
      refine lv_iload_n hx hb dX5_lay_2_26 rfl (lv_at hl 2 rfl) ?_
      refine lv_aload_n hx hb dX5_lay_2_27 rfl (lv_at hl 0 rfl) ?_
      refine gx_X5_3_1090 E hX hD hP dX5_lay_2_28 ?_
      refine gx_X5_27_1000 E hX hD hP dX5_lay_2_31 ?_
      refine gx_X5_67_2000 (v := (σ.1 2013)) E hX hD hP sgX5_lay_2_TF_rzI2013 dX5_lay_2_34 ?_
      have J52 : ∀ (k4 : Int64) (k5 : Int32), xo_X5_lay_2_TF_J52 y1 a2 k4 k5 = some o2 → ∀ (H : Heap) (locs : List Loc), PIC D clsA G dsc ad (sgX5_lay_2_TF σ a2) H → va_S A s.heap H locs → ∀ (ls : Array Slot), lv_has ls 4 [(0, .ref (ad 1090)), (1, .int x1), (2, .int y1)] → W p l e rmX5_lay_2_TF s m args below meth c0 H locs 0 0 Q (F0 m 52 ls [.long k4, .int k5, .ref (ad 1153)]) := by
        intro k4 k5 hf H locs hP hS ls hl
        unfold xo_X5_lay_2_TF_J52 at hf
        obtain ⟨a6, ha6, hf⟩ := bdP hf
        refine p_last hx hb hX.1 hP hS (hA _ (PA_c (hD.1 _ _ dX_1153))) (hD.1 _ _ dX_1153) sgX5_lay_2_TF_raL1153 ha6 sgX5_lay_2_TF_aL1153 dX5_lay_2_52 (fun H locs hP hS => ?_)
        obtain ⟨v7, hv7, hf⟩ := bdP hf
        refine lv_iinc (v := v7) (lv' := [(2, .int v7), (0, .ref (ad 1090)), (1, .int x1)]) hx hb dX5_lay_2_53 hl (k := 2) rfl (Option.some.inj hv7) (by decide) rfl (fun ls hl => ?_)
        refine lv_goto (tgt := 2) hx hb dX5_lay_2_56 (by decide) ?_
        exact ih2 _ (Option.some.inj hf).symm H locs hP hS ls (lv_sub hl [1, 2, 0] rfl) KE2_0
      refine lv_icmp_ne (tgt := 48) hx hb dX5_lay_2_37 (by decide) (fun c8 => ?_) (fun c8 => ?_)
      · have hf := ifF c8 hf
        refine lv_aload_n hx hb dX5_lay_2_48 rfl (lv_at hl 0 rfl) ?_
        refine gx_X5_19_1090 (v := (σ.2.1 1091)) E hX hD hP sgX5_lay_2_TF_rzL1091 dX5_lay_2_49 ?_
        exact J52 (σ.2.1 1091) ((10 * x1) + y1) hf H locs hP hS ls (lv_sub hl [0, 1, 2] rfl)
      · have hf := ifT c8 hf
        refine lv_aload_n hx hb dX5_lay_2_40 rfl (lv_at hl 0 rfl) ?_
        refine lv_iload_n hx hb dX5_lay_2_41 rfl (lv_at hl 1 rfl) ?_
        obtain ⟨v9, u10, hf⟩ := bdP hf
        refine cx_X5_70_X8_end_TF E hX hD hP hS hA (kxX8_end_TF l D G hD sgX5_lay_2_TF_rzI1092 sgX5_lay_2_TF_rzI1094 sgX5_lay_2_TF_rzI1095 sgX5_lay_2_TF_rzI2027 sgX5_lay_2_TF_raI1108 sgX5_lay_2_TF_raI1170 sgX5_lay_2_TF_raL1140 u10) ⟨rfl, rfl⟩ ⟨Nat.le_of_ble_eq_true rfl, Nat.le_of_ble_eq_true rfl⟩ ⟨Nat.zero_le _, Nat.zero_le _⟩ hl.1 (Nat.le_of_ble_eq_true rfl) dX5_lay_2_42 (fun H locs hP hS => ?_)
        refine lv_goto (tgt := 52) hx hb dX5_lay_2_45 (by decide) ?_
        exact J52 v9 ((10 * x1) + y1) hf H locs hP hS ls (lv_sub hl [0, 1, 2] rfl)
  obtain ⟨ex2, hlp2, hf⟩ := bdP hf
  refine LP2 (0, (σ.2.2.2.1 1153)) ex2 hlp2 H locs hP hS ls (lv_sub hl [1, 2, 0] rfl) ?_
  intro a11 hex2 H locs hP hS ls hl
  subst ex2
  refine lv_iconst hx hb dX5_lay_2_59 ic_1 ?_
  refine lv_istore_n (lv' := [(2, .int 1), (0, .ref (ad 1090)), (1, .int x1)]) hx hb dX5_lay_2_60 rfl hl (by decide) rfl (fun ls hl => ?_)
  have LP61 : ∀ (st61 : Int32 × (Nat → Int64)) (ex61 : ((Nat → Int64))), loop (xo_X5_lay_2_TF_L61 (σ.1 1092) (σ.1 1094) (σ.1 1095) (σ.1 2008) (σ.1 2013) (σ.1 2027) (σ.1 2032) (σ.2.1 1091) (σ.2.2.1 1108) (σ.2.2.1 1170) (σ.2.2.1 2037) (σ.2.2.1 2043) (σ.2.2.2.1 1140) (σ.2.2.2.1 1141) nr nw (fun k => σ.1 (6000 + 16 * k + 2)) (fun k => σ.1 (6000 + 16 * k + 5)) (fun k => σ.1 (6000 + 16 * k + 6)) (fun k => σ.1 (8000 + 16 * k + 0)) (fun k => σ.1 (8000 + 16 * k + 1)) (fun k => σ.1 (8000 + 16 * k + 2)) (fun k => σ.2.2.1 (4000 + 16 * k)) x1) st61 = some ex61 → ∀ (H : Heap) (locs : List Loc), PIC D clsA G dsc ad (sgX5_lay_2_TF σ (st61.2)) H → va_S A s.heap H locs → ∀ (ls : Array Slot), lv_has ls 4 [(0, .ref (ad 1090)), (1, .int x1), (2, .int (st61.1))] → (∀ (a32 : Nat → Int64), ex61 = a32 → ∀ (H : Heap) (locs : List Loc), PIC D clsA G dsc ad (sgX5_lay_2_TF σ a32) H → va_S A s.heap H locs → ∀ (ls : Array Slot), lv_has ls 4 [] → W p l e rmX5_lay_2_TF s m args below meth c0 H locs 0 0 Q (F0 m 130 ls [])) → W p l e rmX5_lay_2_TF s m args below meth c0 H locs 0 0 Q (F0 m 61 ls []) := by
    refine loop_P (fun st61 ex61 o61 hf ih61 hx61 => ?_)
    obtain ⟨y12, a13⟩ := st61
    intro H locs (hP : PIC D clsA G dsc ad (sgX5_lay_2_TF σ a13) H) hS ls (hl : lv_has ls 4 [(0, .ref (ad 1090)), (1, .int x1), (2, .int y12)]) KE61_0
    dsimp only [xo_X5_lay_2_TF_L61] at hf
    refine lv_iload_n hx hb dX5_lay_2_61 rfl (lv_at hl 2 rfl) ?_
    refine lv_if_eq (tgt := 130) hx hb dX5_lay_2_62 (by decide) (fun c14 => ?_) (fun c14 => ?_)
    · have hf := ifT c14 hf
      exact KE61_0 _ (hx61 _ (Option.some.inj hf).symm).symm H locs hP hS ls (lv_sub hl [] rfl)
    · have hf := ifF c14 hf
      refine lv_iconst hx hb dX5_lay_2_65 ic_0 ?_
      refine lv_istore_n (lv' := [(2, .int 0), (0, .ref (ad 1090)), (1, .int x1)]) hx hb dX5_lay_2_66 rfl hl (by decide) rfl (fun ls hl => ?_)
      refine lv_iconst hx hb dX5_lay_2_67 ic_0 ?_
      refine lv_istore_n (lv' := [(3, .int 0), (2, .int 0), (0, .ref (ad 1090)), (1, .int x1)]) hx hb dX5_lay_2_68 rfl hl (by decide) rfl (fun ls hl => ?_)
      have LP69 : ∀ (st69 : Int32 × Int32 × (Nat → Int64)) (ex69 : (Int32 × (Nat → Int64))), loop (xo_X5_lay_2_TF_L69 (σ.1 1092) (σ.1 1094) (σ.1 1095) (σ.1 2008) (σ.1 2013) (σ.1 2027) (σ.1 2032) (σ.2.1 1091) (σ.2.2.1 1108) (σ.2.2.1 1170) (σ.2.2.1 2037) (σ.2.2.1 2043) (σ.2.2.2.1 1140) (σ.2.2.2.1 1141) nr nw (fun k => σ.1 (6000 + 16 * k + 2)) (fun k => σ.1 (6000 + 16 * k + 5)) (fun k => σ.1 (6000 + 16 * k + 6)) (fun k => σ.1 (8000 + 16 * k + 0)) (fun k => σ.1 (8000 + 16 * k + 1)) (fun k => σ.1 (8000 + 16 * k + 2)) (fun k => σ.2.2.1 (4000 + 16 * k)) x1) st69 = some ex69 → ∀ (H : Heap) (locs : List Loc), PIC D clsA G dsc ad (sgX5_lay_2_TF σ (st69.2.2)) H → va_S A s.heap H locs → ∀ (ls : Array Slot), lv_has ls 4 [(0, .ref (ad 1090)), (1, .int x1), (2, .int (st69.1)), (3, .int (st69.2.1))] → (∀ (y30 : Int32) (a31 : Nat → Int64), ex69 = (y30, a31) → ∀ (H : Heap) (locs : List Loc), PIC D clsA G dsc ad (sgX5_lay_2_TF σ a31) H → va_S A s.heap H locs → ∀ (ls : Array Slot), lv_has ls 4 [(0, .ref (ad 1090)), (1, .int x1), (2, .int y30)] → W p l e rmX5_lay_2_TF s m args below meth c0 H locs 0 0 Q (F0 m 127 ls [])) → W p l e rmX5_lay_2_TF s m args below meth c0 H locs 0 0 Q (F0 m 69 ls []) := by
        refine loop_P (fun st69 ex69 o69 hf ih69 hx69 => ?_)
        obtain ⟨y15, y16, a17⟩ := st69
        intro H locs (hP : PIC D clsA G dsc ad (sgX5_lay_2_TF σ a17) H) hS ls (hl : lv_has ls 4 [(0, .ref (ad 1090)), (1, .int x1), (2, .int y15), (3, .int y16)]) KE69_0
        dsimp only [xo_X5_lay_2_TF_L69] at hf
        refine lv_iload_n hx hb dX5_lay_2_69 rfl (lv_at hl 3 rfl) ?_
        refine lv_aload_n hx hb dX5_lay_2_70 rfl (lv_at hl 0 rfl) ?_
        refine gx_X5_3_1090 E hX hD hP dX5_lay_2_71 ?_
        refine gx_X5_27_1000 E hX hD hP dX5_lay_2_74 ?_
        refine gx_X5_63_2000 (v := (σ.1 2008)) E hX hD hP sgX5_lay_2_TF_rzI2008 dX5_lay_2_77 ?_
        refine lv_icmp_ge (tgt := 127) hx hb dX5_lay_2_80 (by decide) (fun c18 => ?_) (fun c18 => ?_)
        · have hf := ifT c18 hf
          exact KE69_0 _ _ (hx69 _ (Option.some.inj hf).symm).symm H locs hP hS ls (lv_sub hl [0, 1, 2] rfl)
        · have hf := ifF c18 hf
          refine lv_iload_n hx hb dX5_lay_2_83 rfl (lv_at hl 3 rfl) ?_
          refine lv_aload_n hx hb dX5_lay_2_84 rfl (lv_at hl 0 rfl) ?_
          refine gx_X5_3_1090 E hX hD hP dX5_lay_2_85 ?_
          refine gx_X5_27_1000 E hX hD hP dX5_lay_2_88 ?_
          refine gx_X5_67_2000 (v := (σ.1 2013)) E hX hD hP sgX5_lay_2_TF_rzI2013 dX5_lay_2_91 ?_
          have J121 : ∀ (y19 : Int32) (a20 : Nat → Int64), xo_X5_lay_2_TF_J121 y16 y19 a20 = some o69 → ∀ (H : Heap) (locs : List Loc), PIC D clsA G dsc ad (sgX5_lay_2_TF σ a20) H → va_S A s.heap H locs → ∀ (ls : Array Slot), lv_has ls 4 [(0, .ref (ad 1090)), (1, .int x1), (2, .int y19), (3, .int y16)] → W p l e rmX5_lay_2_TF s m args below meth c0 H locs 0 0 Q (F0 m 121 ls []) := by
            intro y19 a20 hf H locs hP hS ls hl
            unfold xo_X5_lay_2_TF_J121 at hf
            obtain ⟨v21, hv21, hf⟩ := bdP hf
            refine lv_iinc (v := v21) (lv' := [(3, .int v21), (0, .ref (ad 1090)), (1, .int x1), (2, .int y19)]) hx hb dX5_lay_2_121 hl (k := 3) rfl (Option.some.inj hv21) (by decide) rfl (fun ls hl => ?_)
            refine lv_goto (tgt := 69) hx hb dX5_lay_2_124 (by decide) ?_
            exact ih69 _ (Option.some.inj hf).symm H locs hP hS ls (lv_sub hl [1, 2, 3, 0] rfl) KE69_0
          refine lv_icmp_eq (tgt := 121) hx hb dX5_lay_2_94 (by decide) (fun c22 => ?_) (fun c22 => ?_)
          · have hf := ifT c22 hf
            exact J121 y15 a17 hf H locs hP hS ls (lv_sub hl [0, 1, 2, 3] rfl)
          · have hf := ifF c22 hf
            refine lv_aload_n hx hb dX5_lay_2_97 rfl (lv_at hl 0 rfl) ?_
            refine gx_X5_3_1090 E hX hD hP dX5_lay_2_98 ?_
            refine gx_X5_27_1000 E hX hD hP dX5_lay_2_101 ?_
            refine lv_iload_n hx hb dX5_lay_2_104 rfl (lv_at hl 3 rfl) ?_
            refine lv_iload_n hx hb dX5_lay_2_105 rfl (lv_at hl 1 rfl) ?_
            obtain ⟨v23, u24, hf⟩ := bdP hf
            refine cx_X5_74_X3_unseen E hX hD hP hS hA (kxX3_unseen l D G hD sgX5_lay_2_TF_rzI2027 sgX5_lay_2_TF_raI1170 sgX5_lay_2_TF_raI2043 u24) ⟨rfl, rfl⟩ ⟨Nat.le_of_ble_eq_true rfl, Nat.le_of_ble_eq_true rfl⟩ ⟨Nat.zero_le _, Nat.zero_le _⟩ hl.1 (Nat.le_of_ble_eq_true rfl) dX5_lay_2_106 (fun H locs hP hS => ?_)
            refine lv_if_ne (tgt := 121) hx hb dX5_lay_2_109 (by decide) (fun c25 => ?_) (fun c25 => ?_)
            · have hf := ifF c25 hf
              exact J121 y15 a17 hf H locs hP hS ls (lv_sub hl [0, 1, 2, 3] rfl)
            · have hf := ifT c25 hf
              refine lv_iload_n hx hb dX5_lay_2_112 rfl (lv_at hl 2 rfl) ?_
              refine lv_aload_n hx hb dX5_lay_2_113 rfl (lv_at hl 0 rfl) ?_
              refine lv_iload_n hx hb dX5_lay_2_114 rfl (lv_at hl 3 rfl) ?_
              refine lv_iload_n hx hb dX5_lay_2_115 rfl (lv_at hl 1 rfl) ?_
              obtain ⟨⟨v26, a27⟩, u28, hf⟩ := bdP hf
              dsimp only at hf
              refine cx_X5_77_X5_betters_TF E hX hD hP hS hA (kxX5_betters_TF l D G hD sgX5_lay_2_TF_rzI1092 sgX5_lay_2_TF_rzI1094 sgX5_lay_2_TF_rzI1095 sgX5_lay_2_TF_rzI2008 sgX5_lay_2_TF_rzI2013 sgX5_lay_2_TF_rzI2027 sgX5_lay_2_TF_rzI2032 sgX5_lay_2_TF_rzL1091 sgX5_lay_2_TF_raI1108 sgX5_lay_2_TF_raI1170 sgX5_lay_2_TF_raI2037 sgX5_lay_2_TF_raI2043 sgX5_lay_2_TF_raL1140 sgX5_lay_2_TF_raL1141 sgX5_lay_2_TF_raL1153 rfl rfl sgX5_lay_2_TF_rpR2 sgX5_lay_2_TF_rpR5 sgX5_lay_2_TF_rpR6 sgX5_lay_2_TF_rpW0 sgX5_lay_2_TF_rpW1 sgX5_lay_2_TF_rpW2 sgX5_lay_2_TF_rgG0 u28) ⟨rfl, rfl⟩ ⟨Nat.le_of_ble_eq_true rfl, Nat.le_of_ble_eq_true rfl⟩ ⟨Nat.zero_le _, Nat.zero_le _⟩ hl.1 (Nat.le_of_ble_eq_true rfl) dX5_lay_2_116 (fun H locs hP hS => ?_)
              rw [sgX5_lay_2_TF_aL1153] at hP
              refine lv_ior hx hb dX5_lay_2_119 ?_
              obtain ⟨v29, hv29, hf⟩ := bdP hf
              refine nm_i (Option.some.inj hv29) ?_
              refine lv_istore_n (lv' := [(2, .int v29), (0, .ref (ad 1090)), (1, .int x1), (3, .int y16)]) hx hb dX5_lay_2_120 rfl hl (by decide) rfl (fun ls hl => ?_)
              exact J121 v29 a27 hf H locs hP hS ls (lv_sub hl [1, 2, 0, 3] rfl)
      obtain ⟨ex69, hlp69, hf⟩ := bdP hf
      refine LP69 (0, 0, a13) ex69 hlp69 H locs hP hS ls (lv_sub hl [2, 3, 1, 0] rfl) ?_
      intro y30 a31 hex69 H locs hP hS ls hl
      subst ex69
      dsimp only at hf
      refine lv_goto (tgt := 61) hx hb dX5_lay_2_127 (by decide) ?_
      exact ih61 _ (Option.some.inj hf).symm H locs hP hS ls (lv_sub hl [0, 1, 2] rfl) KE61_0
  obtain ⟨ex61, hlp61, hf⟩ := bdP hf
  refine LP61 (1, a11) ex61 hlp61 H locs hP hS ls (lv_sub hl [1, 2, 0] rfl) ?_
  intro a32 hex61 H locs hP hS ls hl
  subst ex61
  cases hf
  rw [hQ]; exact g_vret hx hb hr hlk hP hS dX5_lay_2_130
theorem kxX5_lay_2_TF (l : Launch) (D : va_G) (G : Nat → ClassId) {dsc : Nat → Option Dsc} {ad : Nat → Nat} {σ : Sto} {nr nw nu : Nat} (hD : XD dsc nr nw nu) {x1 : Int32} {w_aL1153 : Nat → Int64} {z_TF_by : Int32} (e_zI1092 : σ.1 1092 = z_TF_by) {z_TF_times : Int32} (e_zI1094 : σ.1 1094 = z_TF_times) {z_TF_of : Int32} (e_zI1095 : σ.1 1095 = z_TF_of) {z_L_places : Int32} (e_zI2008 : σ.1 2008 = z_L_places) {z_L_to : Int32} (e_zI2013 : σ.1 2013 = z_L_to) {z_Ld_size : Int32} (e_zI2027 : σ.1 2027 = z_Ld_size) {z_Lw_size : Int32} (e_zI2032 : σ.1 2032 = z_Lw_size) {z_TF_none : Int64} (e_zL1091 : σ.2.1 1091 = z_TF_none) {a_X_knowing : Nat → Int32} (e_aI1108 : σ.2.2.1 1108 = a_X_knowing) {a_UNIT : Nat → Int32} (e_aI1170 : σ.2.2.1 1170 = a_UNIT) {a_Lw_data : Nat → Int32} (e_aI2037 : σ.2.2.1 2037 = a_Lw_data) {a_L_seen : Nat → Int32} (e_aI2043 : σ.2.2.1 2043 = a_L_seen) {a_W_world : Nat → Int64} (e_aL1140 : σ.2.2.2.1 1140 = a_W_world) {a_W_likely : Nat → Int64} (e_aL1141 : σ.2.2.2.1 1141 = a_W_likely) {a_TF_value : Nat → Int64} (e_aL1153 : σ.2.2.2.1 1153 = a_TF_value) {n_r : Nat} (e_nN0 : nr = n_r) {n_w : Nat} (e_nN1 : nw = n_w) {p_road_hours : Nat → Int32} (e_pR2 : (fun k => σ.1 (6000 + 16 * k + 2)) = p_road_hours) {p_road_wait : Nat → Int32} (e_pR5 : (fun k => σ.1 (6000 + 16 * k + 5)) = p_road_wait) {p_road_number : Nat → Int32} (e_pR6 : (fun k => σ.1 (6000 + 16 * k + 6)) = p_road_number) {p_word_place : Nat → Int32} (e_pW0 : (fun k => σ.1 (8000 + 16 * k + 0)) = p_word_place) {p_word_road : Nat → Int32} (e_pW1 : (fun k => σ.1 (8000 + 16 * k + 1)) = p_word_road) {p_word_hours : Nat → Int32} (e_pW2 : (fun k => σ.1 (8000 + 16 * k + 2)) = p_word_hours) {g_grid : Nat → Nat → Int32} (e_gG0 : (fun k => σ.2.2.1 (4000 + 16 * k)) = g_grid) (hf : xo_X5_lay_2_TF z_TF_by z_TF_times z_TF_of z_L_places z_L_to z_Ld_size z_Lw_size z_TF_none a_X_knowing a_UNIT a_Lw_data a_L_seen a_W_world a_W_likely a_TF_value n_r n_w p_road_hours p_road_wait p_road_number p_word_place p_word_road p_word_hours g_grid x1 = some w_aL1153) : CtG l D G dsc ad yX5_lay_2 (ws_ yX5_lay_2 cX5_lay_2 4 (Option.none : Option Jvm.ClassFile.FieldType)) rmX5_lay_2_TF [.ref (ad 1090), .int x1] σ none (aL σ 1153 w_aL1153) := by
  subst e_zI1092
  subst e_zI1094
  subst e_zI1095
  subst e_zI2008
  subst e_zI2013
  subst e_zI2027
  subst e_zI2032
  subst e_zL1091
  subst e_aI1108
  subst e_aI1170
  subst e_aI2037
  subst e_aI2043
  subst e_aL1140
  subst e_aL1141
  subst e_aL1153
  subst e_nN0
  subst e_nN1
  subst e_pR2
  subst e_pR5
  subst e_pR6
  subst e_pW0
  subst e_pW1
  subst e_pW2
  subst e_gG0
  exact p_ctG (by decide +kernel) (Nat.le_of_ble_eq_true rfl) (fun p e s m below meth c0 ls A E hP hX hA hS hl => wkX5_lay_2_TF E hX hD hA hf rfl hP hS hl)
theorem ux_X5_23_1090 {σ1 : Sto} (E : EN p s m args meth c0 RX5 cc nL ret) (hX : KX D G ad A s s.heap) (hD : XD dsc nr nw nu) (hP : PIC D clsA G dsc ad σ H) (hS : va_S A s.heap H locs) (hA : A (ad 1090)) (hσ : zI σ 1092 0 = σ1) (hdg : decode cc pc = .ok (.putfield 23, 3)) (kk : ∀ (H1 : Heap) (locs1 : List Loc), PIC D clsA G dsc ad σ1 H1 → va_S A s.heap H1 locs1 → W p l e R s m args below meth c0 H1 locs1 cells slots Q (F0 m (pc + 3) ls rest)) : W p l e R s m args below meth c0 H locs cells slots Q (F0 m pc ls (.ref (ad 1050) :: .ref (ad 1090) :: rest)) :=
  p_putr2 E.1.1 E.1.2.1 E.1.2.2.2.2 in_X8 tyX8 tyX8_ok E.1.2.2.2.1 hX.1 hP hS hA (hD.1 _ _ dX_1090) rfl 2 (by decide) (by decide +kernel) (E.1.2.2.2.2 _ q363) (fun _ h => h) rfl rfl rfl rfl rfl hσ hdg kk
theorem cx_X5_51_X5_notKnown_TF {rm : Room} {σ1 : Sto} {x1 : Int32} {r : Int32} (E : EN p s m args meth c0 RX5 cc nL ret) (hX : KX D G ad A s s.heap) (hD : XD dsc nr nw nu) (hP : PIC D clsA G dsc ad σ H) (hS : va_S A s.heap H locs) (hA : ∀ q, PA dsc ad s.heap.size q → A q) (hM : CtG l D G dsc ad yX5_notKnown (ws_ yX5_notKnown cX5_notKnown 4 (Option.some Jvm.ClassFile.FieldType.int)) rm [.ref (ad 1090), .int x1] σ (some (.int r)) σ1) (hz : rm.cells = 0 ∧ rm.slots = 0) (hR : rm.frames + 1 ≤ R.frames ∧ 8 + (4 + 11) + rm.locals ≤ R.locals) (hcs : cells ≤ R.cells ∧ slots ≤ R.slots) (hsz : ls.size = nL) (hW : (rest.map fun v => v.category).sum ≤ 8) (hdg : decode cc pc = .ok (.invokevirtual 51, 3)) (kk : ∀ (H1 : Heap) (locs1 : List Loc), PIC D clsA G dsc ad σ1 H1 → va_S A s.heap H1 locs1 → W p l e R s m args below meth c0 H1 locs1 cells slots Q (F0 m (pc + 3) ls (.int r :: rest))) : W p l e R s m args below meth c0 H locs cells slots Q (F0 m pc ls (.int x1 :: .ref (ad 1090) :: rest)) :=
  p_gU (As := [.int x1]) (rest := rest) E.1 hX hP hS hA hM (cw_any (owner := "ShutPasses$Table") (x := ⟨"ShutPasses$Table", "notKnown", "(I)I"⟩) (y := yX5_notKnown) (C := "ShutPasses$Spare") (index := 51) (own := RX5) 1 E.1.2.2.2.2 (lw_meth q1059) rfl hz.1 hz.2 (E.1.2.2.2.2 _ q1053) (E.1.2.2.2.2 _ q1055) (va_Decl.of (E.1.2.2.2.2 _ q1054) (E.1.2.2.2.2 _ q1059)) (E.1.2.2.2.2 _ q1058) (E.1.2.2.2.2 _ q1054) (E.1.2.2.2.2 _ q131) (by decide +kernel) hR) (hD.1 _ _ dX_1090) rfl rfl rfl hsz rfl hW hdg hcs kk
theorem cx_X5_55_X5_lay_2_TF {rm : Room} {σ1 : Sto} {x1 : Int32} (E : EN p s m args meth c0 RX5 cc nL ret) (hX : KX D G ad A s s.heap) (hD : XD dsc nr nw nu) (hP : PIC D clsA G dsc ad σ H) (hS : va_S A s.heap H locs) (hA : ∀ q, PA dsc ad s.heap.size q → A q) (hM : CtG l D G dsc ad yX5_lay_2 (ws_ yX5_lay_2 cX5_lay_2 4 (Option.none : Option Jvm.ClassFile.FieldType)) rm [.ref (ad 1090), .int x1] σ none σ1) (hz : rm.cells = 0 ∧ rm.slots = 0) (hR : rm.frames + 1 ≤ R.frames ∧ 8 + (4 + 11) + rm.locals ≤ R.locals) (hcs : cells ≤ R.cells ∧ slots ≤ R.slots) (hsz : ls.size = nL) (hW : (rest.map fun v => v.category).sum ≤ 8) (hdg : decode cc pc = .ok (.invokevirtual 55, 3)) (kk : ∀ (H1 : Heap) (locs1 : List Loc), PIC D clsA G dsc ad σ1 H1 → va_S A s.heap H1 locs1 → W p l e R s m args below meth c0 H1 locs1 cells slots Q (F0 m (pc + 3) ls (rest))) : W p l e R s m args below meth c0 H locs cells slots Q (F0 m pc ls (.int x1 :: .ref (ad 1090) :: rest)) :=
  p_gU (As := [.int x1]) (rest := rest) E.1 hX hP hS hA hM (cw_any (owner := "ShutPasses$Table") (x := ⟨"ShutPasses$Table", "lay", "(I)V"⟩) (y := yX5_lay_2) (C := "ShutPasses$Spare") (index := 55) (own := RX5) 1 E.1.2.2.2.2 (lw_meth q1064) rfl hz.1 hz.2 (E.1.2.2.2.2 _ q1061) (E.1.2.2.2.2 _ q2278) (va_Decl.of (E.1.2.2.2.2 _ q1063) (E.1.2.2.2.2 _ q1064)) (va_Nw.use rfl (hX.2.1.2 ("ShutPasses$Spare", yX5_lay_2) (by decide +kernel))) (E.1.2.2.2.2 _ q1063) (E.1.2.2.2.2 _ q131) (by decide +kernel) hR) (hD.1 _ _ dX_1090) rfl rfl rfl hsz rfl hW hdg hcs kk
/-! X5_lay_TF_W (LShutPasses$Weights;)V -/
def sgX5_lay_TF_W (σ : Sto) (w0 : Int32) (w1 : Nat → Int64) : Sto := aL (zI σ 1092 w0) 1153 w1
theorem sgX5_lay_TF_W_self (σ : Sto) : sgX5_lay_TF_W σ (σ.1 1092) (σ.2.2.2.1 1153) = σ := by
  unfold sgX5_lay_TF_W
  simp only [zI_self, zL_self, aI_self, aL_self]
theorem sgX5_lay_TF_W_zI1092 {σ : Sto} {w0 : Int32} {w1 : Nat → Int64} {g : Int32} : zI (sgX5_lay_TF_W σ w0 w1) 1092 g = sgX5_lay_TF_W σ g w1 := (cm_zI_aL _ _ _ _ _).trans (congrArg (fun z => aL z 1153 w1) (zI_zI _ 1092 _ _))
theorem sgX5_lay_TF_W_aL1153 {σ : Sto} {w0 : Int32} {w1 : Nat → Int64} {g : Nat → Int64} : aL (sgX5_lay_TF_W σ w0 w1) 1153 g = sgX5_lay_TF_W σ w0 g := aL_aL _ 1153 _ _
theorem sgX5_lay_TF_W_rzI1092 {σ : Sto} {w0 : Int32} {w1 : Nat → Int64} : (sgX5_lay_TF_W σ w0 w1).1 1092 = w0 := rfl
theorem sgX5_lay_TF_W_rzI1094 {σ : Sto} {w0 : Int32} {w1 : Nat → Int64} : (sgX5_lay_TF_W σ w0 w1).1 1094 = σ.1 1094 := rfl
theorem sgX5_lay_TF_W_rzI1095 {σ : Sto} {w0 : Int32} {w1 : Nat → Int64} : (sgX5_lay_TF_W σ w0 w1).1 1095 = σ.1 1095 := rfl
theorem sgX5_lay_TF_W_rzI2008 {σ : Sto} {w0 : Int32} {w1 : Nat → Int64} : (sgX5_lay_TF_W σ w0 w1).1 2008 = σ.1 2008 := rfl
theorem sgX5_lay_TF_W_rzI2013 {σ : Sto} {w0 : Int32} {w1 : Nat → Int64} : (sgX5_lay_TF_W σ w0 w1).1 2013 = σ.1 2013 := rfl
theorem sgX5_lay_TF_W_rzI2027 {σ : Sto} {w0 : Int32} {w1 : Nat → Int64} : (sgX5_lay_TF_W σ w0 w1).1 2027 = σ.1 2027 := rfl
theorem sgX5_lay_TF_W_rzI2032 {σ : Sto} {w0 : Int32} {w1 : Nat → Int64} : (sgX5_lay_TF_W σ w0 w1).1 2032 = σ.1 2032 := rfl
theorem sgX5_lay_TF_W_rzL1091 {σ : Sto} {w0 : Int32} {w1 : Nat → Int64} : (sgX5_lay_TF_W σ w0 w1).2.1 1091 = σ.2.1 1091 := rfl
theorem sgX5_lay_TF_W_raI1108 {σ : Sto} {w0 : Int32} {w1 : Nat → Int64} : (sgX5_lay_TF_W σ w0 w1).2.2.1 1108 = σ.2.2.1 1108 := rfl
theorem sgX5_lay_TF_W_raI1170 {σ : Sto} {w0 : Int32} {w1 : Nat → Int64} : (sgX5_lay_TF_W σ w0 w1).2.2.1 1170 = σ.2.2.1 1170 := rfl
theorem sgX5_lay_TF_W_raI2037 {σ : Sto} {w0 : Int32} {w1 : Nat → Int64} : (sgX5_lay_TF_W σ w0 w1).2.2.1 2037 = σ.2.2.1 2037 := rfl
theorem sgX5_lay_TF_W_raI2043 {σ : Sto} {w0 : Int32} {w1 : Nat → Int64} : (sgX5_lay_TF_W σ w0 w1).2.2.1 2043 = σ.2.2.1 2043 := rfl
theorem sgX5_lay_TF_W_raL1140 {σ : Sto} {w0 : Int32} {w1 : Nat → Int64} : (sgX5_lay_TF_W σ w0 w1).2.2.2.1 1140 = σ.2.2.2.1 1140 := rfl
theorem sgX5_lay_TF_W_raL1141 {σ : Sto} {w0 : Int32} {w1 : Nat → Int64} : (sgX5_lay_TF_W σ w0 w1).2.2.2.1 1141 = σ.2.2.2.1 1141 := rfl
theorem sgX5_lay_TF_W_raL1153 {σ : Sto} {w0 : Int32} {w1 : Nat → Int64} : (sgX5_lay_TF_W σ w0 w1).2.2.2.1 1153 = w1 := rfl
theorem sgX5_lay_TF_W_rpR2 {σ : Sto} {w0 : Int32} {w1 : Nat → Int64} : (fun k => (sgX5_lay_TF_W σ w0 w1).1 (6000 + 16 * k + 2)) = (fun k => σ.1 (6000 + 16 * k + 2)) := by
  funext k
  unfold sgX5_lay_TF_W
  dsimp only [zI, zL, aI, aL]
  repeat rw [if_neg (by omega)]
theorem sgX5_lay_TF_W_rpR5 {σ : Sto} {w0 : Int32} {w1 : Nat → Int64} : (fun k => (sgX5_lay_TF_W σ w0 w1).1 (6000 + 16 * k + 5)) = (fun k => σ.1 (6000 + 16 * k + 5)) := by
  funext k
  unfold sgX5_lay_TF_W
  dsimp only [zI, zL, aI, aL]
  repeat rw [if_neg (by omega)]
theorem sgX5_lay_TF_W_rpR6 {σ : Sto} {w0 : Int32} {w1 : Nat → Int64} : (fun k => (sgX5_lay_TF_W σ w0 w1).1 (6000 + 16 * k + 6)) = (fun k => σ.1 (6000 + 16 * k + 6)) := by
  funext k
  unfold sgX5_lay_TF_W
  dsimp only [zI, zL, aI, aL]
  repeat rw [if_neg (by omega)]
theorem sgX5_lay_TF_W_rpW0 {σ : Sto} {w0 : Int32} {w1 : Nat → Int64} : (fun k => (sgX5_lay_TF_W σ w0 w1).1 (8000 + 16 * k + 0)) = (fun k => σ.1 (8000 + 16 * k + 0)) := by
  funext k
  unfold sgX5_lay_TF_W
  dsimp only [zI, zL, aI, aL]
  repeat rw [if_neg (by omega)]
theorem sgX5_lay_TF_W_rpW1 {σ : Sto} {w0 : Int32} {w1 : Nat → Int64} : (fun k => (sgX5_lay_TF_W σ w0 w1).1 (8000 + 16 * k + 1)) = (fun k => σ.1 (8000 + 16 * k + 1)) := by
  funext k
  unfold sgX5_lay_TF_W
  dsimp only [zI, zL, aI, aL]
  repeat rw [if_neg (by omega)]
theorem sgX5_lay_TF_W_rpW2 {σ : Sto} {w0 : Int32} {w1 : Nat → Int64} : (fun k => (sgX5_lay_TF_W σ w0 w1).1 (8000 + 16 * k + 2)) = (fun k => σ.1 (8000 + 16 * k + 2)) := by
  funext k
  unfold sgX5_lay_TF_W
  dsimp only [zI, zL, aI, aL]
  repeat rw [if_neg (by omega)]
theorem sgX5_lay_TF_W_rgG0 {σ : Sto} {w0 : Int32} {w1 : Nat → Int64} : (fun k => (sgX5_lay_TF_W σ w0 w1).2.2.1 (4000 + 16 * k)) = (fun k => σ.2.2.1 (4000 + 16 * k)) := by
  funext k
  unfold sgX5_lay_TF_W
  dsimp only [zI, zL, aI, aL]
  repeat rw [if_neg (by omega)]
abbrev rmX5_lay_TF_W : Room := { frames := 48, cells := 0, slots := 0, locals := 1314 }
set_option maxHeartbeats 4000000 in
theorem wkX5_lay_TF_W {w_zI1092 : Int32} {w_aL1153 : Nat → Int64} (E : EN p s m args meth c0 RX5 cX5_lay 4 (Option.none : Option Jvm.ClassFile.FieldType)) (hX : KX D G ad A s s.heap) (hD : XD dsc nr nw nu) (hA : ∀ q, PA dsc ad s.heap.size q → A q) (hf : xo_X5_lay_TF_W (σ.1 1092) (σ.1 1094) (σ.1 1095) (σ.1 2008) (σ.1 2013) (σ.1 2027) (σ.1 2032) (σ.2.1 1091) (σ.2.2.1 1108) (σ.2.2.1 1170) (σ.2.2.1 2037) (σ.2.2.1 2043) (σ.2.2.2.1 1140) (σ.2.2.2.1 1141) (σ.2.2.2.1 1153) nr nw (fun k => σ.1 (6000 + 16 * k + 2)) (fun k => σ.1 (6000 + 16 * k + 5)) (fun k => σ.1 (6000 + 16 * k + 6)) (fun k => σ.1 (8000 + 16 * k + 0)) (fun k => σ.1 (8000 + 16 * k + 1)) (fun k => σ.1 (8000 + 16 * k + 2)) (fun k => σ.2.2.1 (4000 + 16 * k)) = some (w_zI1092, w_aL1153)) (hQ : Q = MQ below (va_G1 none (fun t => PIC D clsA G dsc ad (sgX5_lay_TF_W σ w_zI1092 w_aL1153) t.heap) A) args s 0 0 A) (hP : PIC D clsA G dsc ad σ H) (hS : va_S A s.heap H locs) (hl : lv_has ls 4 [(0, .ref (ad 1090)), (1, .ref (ad 1050))]) : W p l e rmX5_lay_TF_W s m args below meth c0 H locs 0 0 Q (F0 m 0 ls []) := by
  obtain ⟨⟨hx, hb, hml, hown, hts⟩, hr, hlk⟩ := id E
  have hP := hP.to (sgX5_lay_TF_W_self σ).symm
  unfold xo_X5_lay_TF_W at hf
  refine lv_aload_n hx hb dX5_lay_0 rfl (lv_at hl 0 rfl) ?_
  refine lv_aload_n hx hb dX5_lay_1 rfl (lv_at hl 1 rfl) ?_
  refine ux_X5_23_1090 E hX hD hP hS (hA _ (PA_c (hD.1 _ _ dX_1090))) sgX5_lay_TF_W_zI1092 dX5_lay_2 (fun H locs hP hS => ?_)
  refine lv_iconst hx hb dX5_lay_5 ic_0 ?_
  refine lv_istore_n (lv' := [(2, .int 0), (0, .ref (ad 1090)), (1, .ref (ad 1050))]) hx hb dX5_lay_6 rfl hl (by decide) rfl (fun ls hl => ?_)
  have LP7 : ∀ (st7 : Int32 × (Nat → Int64)) (ex7 : ((Nat → Int64))), loop (xo_X5_lay_TF_W_L7 (σ.1 1094) (σ.1 1095) (σ.1 2008) (σ.1 2013) (σ.1 2027) (σ.1 2032) (σ.2.1 1091) (σ.2.2.1 1108) (σ.2.2.1 1170) (σ.2.2.1 2037) (σ.2.2.1 2043) (σ.2.2.2.1 1140) (σ.2.2.2.1 1141) nr nw (fun k => σ.1 (6000 + 16 * k + 2)) (fun k => σ.1 (6000 + 16 * k + 5)) (fun k => σ.1 (6000 + 16 * k + 6)) (fun k => σ.1 (8000 + 16 * k + 0)) (fun k => σ.1 (8000 + 16 * k + 1)) (fun k => σ.1 (8000 + 16 * k + 2)) (fun k => σ.2.2.1 (4000 + 16 * k))) st7 = some ex7 → ∀ (H : Heap) (locs : List Loc), PIC D clsA G dsc ad (sgX5_lay_TF_W σ 0 (st7.2)) H → va_S A s.heap H locs → ∀ (ls : Array Slot), lv_has ls 4 [(0, .ref (ad 1090)), (2, .int (st7.1))] → (∀ (a23 : Nat → Int64), ex7 = a23 → ∀ (H : Heap) (locs : List Loc), PIC D clsA G dsc ad (sgX5_lay_TF_W σ 0 a23) H → va_S A s.heap H locs → ∀ (ls : Array Slot), lv_has ls 4 [] → W p l e rmX5_lay_TF_W s m args below meth c0 H locs 0 0 Q (F0 m 80 ls [])) → W p l e rmX5_lay_TF_W s m args below meth c0 H locs 0 0 Q (F0 m 7 ls []) := by
    refine loop_P (fun st7 ex7 o7 hf ih7 hx7 => ?_)
    obtain ⟨y1, a2⟩ := st7
    intro H locs (hP : PIC D clsA G dsc ad (sgX5_lay_TF_W σ 0 a2) H) hS ls (hl : lv_has ls 4 [(0, .ref (ad 1090)), (2, .int y1)]) KE7_0
    dsimp only [xo_X5_lay_TF_W_L7] at hf
    refine lv_iload_n hx hb dX5_lay_7 rfl (lv_at hl 1 rfl) ?_
    refine lv_aload_n hx hb dX5_lay_8 rfl (lv_at hl 0 rfl) ?_
    refine gx_X5_3_1090 E hX hD hP dX5_lay_9 ?_
    refine gx_X5_27_1000 E hX hD hP dX5_lay_12 ?_
    refine gx_X5_31_2000 E hX hD hP dX5_lay_15 ?_
    obtain ⟨v3, u4, hf⟩ := bdP hf
    refine cx_X5_37_J2_size_Ld E hX hD hP hS hA (kxJ2_size_Ld l D G hD sgX5_lay_TF_W_rzI2027 u4) ⟨rfl, rfl⟩ ⟨Nat.le_of_ble_eq_true rfl, Nat.le_of_ble_eq_true rfl⟩ ⟨Nat.zero_le _, Nat.zero_le _⟩ hl.1 (Nat.le_of_ble_eq_true rfl) dX5_lay_18 (fun H locs hP hS => ?_)
    refine lv_icmp_gt (tgt := 80) hx hb dX5_lay_21 (by decide) (fun c5 => ?_) (fun c5 => ?_)
    · have hf := ifT c5 hf
      exact KE7_0 _ (hx7 _ (Option.some.inj hf).symm).symm H locs hP hS ls (lv_sub hl [] rfl)
    · have hf := ifF c5 hf
      refine lv_iconst hx hb dX5_lay_24 ic_0 ?_
      refine lv_istore_n (lv' := [(3, .int 0), (0, .ref (ad 1090)), (2, .int y1)]) hx hb dX5_lay_25 rfl hl (by decide) rfl (fun ls hl => ?_)
      have LP26 : ∀ (st26 : Int32 × (Nat → Int64)) (ex26 : ((Nat → Int64))), loop (xo_X5_lay_TF_W_L26 (σ.1 1094) (σ.1 1095) (σ.1 2008) (σ.1 2013) (σ.1 2027) (σ.1 2032) (σ.2.1 1091) (σ.2.2.1 1108) (σ.2.2.1 1170) (σ.2.2.1 2037) (σ.2.2.1 2043) (σ.2.2.2.1 1140) (σ.2.2.2.1 1141) nr nw (fun k => σ.1 (6000 + 16 * k + 2)) (fun k => σ.1 (6000 + 16 * k + 5)) (fun k => σ.1 (6000 + 16 * k + 6)) (fun k => σ.1 (8000 + 16 * k + 0)) (fun k => σ.1 (8000 + 16 * k + 1)) (fun k => σ.1 (8000 + 16 * k + 2)) (fun k => σ.2.2.1 (4000 + 16 * k)) y1) st26 = some ex26 → ∀ (H : Heap) (locs : List Loc), PIC D clsA G dsc ad (sgX5_lay_TF_W σ 0 (st26.2)) H → va_S A s.heap H locs → ∀ (ls : Array Slot), lv_has ls 4 [(0, .ref (ad 1090)), (2, .int y1), (3, .int (st26.1))] → (∀ (a21 : Nat → Int64), ex26 = a21 → ∀ (H : Heap) (locs : List Loc), PIC D clsA G dsc ad (sgX5_lay_TF_W σ 0 a21) H → va_S A s.heap H locs → ∀ (ls : Array Slot), lv_has ls 4 [(0, .ref (ad 1090)), (2, .int y1)] → W p l e rmX5_lay_TF_W s m args below meth c0 H locs 0 0 Q (F0 m 74 ls [])) → W p l e rmX5_lay_TF_W s m args below meth c0 H locs 0 0 Q (F0 m 26 ls []) := by
        refine loop_P (fun st26 ex26 o26 hf ih26 hx26 => ?_)
        obtain ⟨y6, a7⟩ := st26
        intro H locs (hP : PIC D clsA G dsc ad (sgX5_lay_TF_W σ 0 a7) H) hS ls (hl : lv_has ls 4 [(0, .ref (ad 1090)), (2, .int y1), (3, .int y6)]) KE26_0
        dsimp only [xo_X5_lay_TF_W_L26] at hf
        refine lv_iload_n hx hb dX5_lay_26 rfl (lv_at hl 2 rfl) ?_
        refine lv_aload_n hx hb dX5_lay_27 rfl (lv_at hl 0 rfl) ?_
        refine gx_X5_3_1090 E hX hD hP dX5_lay_28 ?_
        refine gx_X5_27_1000 E hX hD hP dX5_lay_31 ?_
        obtain ⟨v8, u9, hf⟩ := bdP hf
        refine cx_X5_43_X3_knowns E hX hD hP hS hA (kxX3_knowns l D G hD sgX5_lay_TF_W_rzI2027 sgX5_lay_TF_W_raI1170 u9) ⟨rfl, rfl⟩ ⟨Nat.le_of_ble_eq_true rfl, Nat.le_of_ble_eq_true rfl⟩ ⟨Nat.zero_le _, Nat.zero_le _⟩ hl.1 (Nat.le_of_ble_eq_true rfl) dX5_lay_34 (fun H locs hP hS => ?_)
        refine lv_icmp_ge (tgt := 74) hx hb dX5_lay_37 (by decide) (fun c10 => ?_) (fun c10 => ?_)
        · have hf := ifT c10 hf
          exact KE26_0 _ (hx26 _ (Option.some.inj hf).symm).symm H locs hP hS ls (lv_sub hl [0, 1] rfl)
        · have hf := ifF c10 hf
          refine lv_aload_n hx hb dX5_lay_40 rfl (lv_at hl 0 rfl) ?_
          refine gx_X5_23_1090 (v := 0) E hX hD hP sgX5_lay_TF_W_rzI1092 dX5_lay_41 ?_
          obtain ⟨v11, hv11, hf⟩ := bdP hf
          refine p_nn0 (ckz_some hv11) ?_
          refine gx_X5_46_1050 E hX hD hP dX5_lay_44 ?_
          refine lv_iload_n hx hb dX5_lay_47 rfl (lv_at hl 2 rfl) ?_
          obtain ⟨v12, hv12, hf⟩ := bdP hf
          refine p_lald hx hb hX.1 hP (hD.1 _ _ dX_1141) sgX5_lay_TF_W_raL1141 hv12 dX5_lay_48 ?_
          refine lv_lconst hx hb dX5_lay_49 lc_0 ?_
          refine W.lcmp hx hb dX5_lay_50 ?_
          have J68 : ∀ (a13 : Nat → Int64), xo_X5_lay_TF_W_J68 y6 a13 = some o26 → ∀ (H : Heap) (locs : List Loc), PIC D clsA G dsc ad (sgX5_lay_TF_W σ 0 a13) H → va_S A s.heap H locs → ∀ (ls : Array Slot), lv_has ls 4 [(0, .ref (ad 1090)), (2, .int y1), (3, .int y6)] → W p l e rmX5_lay_TF_W s m args below meth c0 H locs 0 0 Q (F0 m 68 ls []) := by
            intro a13 hf H locs hP hS ls hl
            unfold xo_X5_lay_TF_W_J68 at hf
            obtain ⟨v14, hv14, hf⟩ := bdP hf
            refine lv_iinc (v := v14) (lv' := [(3, .int v14), (0, .ref (ad 1090)), (2, .int y1)]) hx hb dX5_lay_68 hl (k := 2) rfl (Option.some.inj hv14) (by decide) rfl (fun ls hl => ?_)
            refine lv_goto (tgt := 26) hx hb dX5_lay_71 (by decide) ?_
            exact ih26 _ (Option.some.inj hf).symm H locs hP hS ls (lv_sub hl [1, 2, 0] rfl) KE26_0
          refine lv_if_le (tgt := 68) hx hb dX5_lay_51 (by decide) (fun c15 => ?_) (fun c15 => ?_)
          · have hf := ifT ((lgc_le _ _).mp c15) hf
            exact J68 a7 hf H locs hP hS ls (lv_sub hl [0, 1, 2] rfl)
          · have hf := ifF (mt (lgc_le _ _).mpr c15) hf
            refine lv_aload_n hx hb dX5_lay_54 rfl (lv_at hl 0 rfl) ?_
            refine lv_iload_n hx hb dX5_lay_55 rfl (lv_at hl 2 rfl) ?_
            obtain ⟨v16, u17, hf⟩ := bdP hf
            refine cx_X5_51_X5_notKnown_TF E hX hD hP hS hA (kxX5_notKnown_TF l D G hD sgX5_lay_TF_W_rzI2027 sgX5_lay_TF_W_raI1170 u17) ⟨rfl, rfl⟩ ⟨Nat.le_of_ble_eq_true rfl, Nat.le_of_ble_eq_true rfl⟩ ⟨Nat.zero_le _, Nat.zero_le _⟩ hl.1 (Nat.le_of_ble_eq_true rfl) dX5_lay_56 (fun H locs hP hS => ?_)
            refine lv_iload_n hx hb dX5_lay_59 rfl (lv_at hl 1 rfl) ?_
            refine lv_icmp_ne (tgt := 68) hx hb dX5_lay_60 (by decide) (fun c18 => ?_) (fun c18 => ?_)
            · have hf := ifF c18 hf
              exact J68 a7 hf H locs hP hS ls (lv_sub hl [0, 1, 2] rfl)
            · have hf := ifT c18 hf
              refine lv_aload_n hx hb dX5_lay_63 rfl (lv_at hl 0 rfl) ?_
              refine lv_iload_n hx hb dX5_lay_64 rfl (lv_at hl 2 rfl) ?_
              obtain ⟨a19, u20, hf⟩ := bdP hf
              refine cx_X5_55_X5_lay_2_TF E hX hD hP hS hA (kxX5_lay_2_TF l D G hD sgX5_lay_TF_W_rzI1092 sgX5_lay_TF_W_rzI1094 sgX5_lay_TF_W_rzI1095 sgX5_lay_TF_W_rzI2008 sgX5_lay_TF_W_rzI2013 sgX5_lay_TF_W_rzI2027 sgX5_lay_TF_W_rzI2032 sgX5_lay_TF_W_rzL1091 sgX5_lay_TF_W_raI1108 sgX5_lay_TF_W_raI1170 sgX5_lay_TF_W_raI2037 sgX5_lay_TF_W_raI2043 sgX5_lay_TF_W_raL1140 sgX5_lay_TF_W_raL1141 sgX5_lay_TF_W_raL1153 rfl rfl sgX5_lay_TF_W_rpR2 sgX5_lay_TF_W_rpR5 sgX5_lay_TF_W_rpR6 sgX5_lay_TF_W_rpW0 sgX5_lay_TF_W_rpW1 sgX5_lay_TF_W_rpW2 sgX5_lay_TF_W_rgG0 u20) ⟨rfl, rfl⟩ ⟨Nat.le_of_ble_eq_true rfl, Nat.le_of_ble_eq_true rfl⟩ ⟨Nat.zero_le _, Nat.zero_le _⟩ hl.1 (Nat.le_of_ble_eq_true rfl) dX5_lay_65 (fun H locs hP hS => ?_)
              rw [sgX5_lay_TF_W_aL1153] at hP
              exact J68 a19 hf H locs hP hS ls (lv_sub hl [0, 1, 2] rfl)
      obtain ⟨ex26, hlp26, hf⟩ := bdP hf
      refine LP26 (0, a2) ex26 hlp26 H locs hP hS ls (lv_sub hl [1, 2, 0] rfl) ?_
      intro a21 hex26 H locs hP hS ls hl
      subst ex26
      obtain ⟨v22, hv22, hf⟩ := bdP hf
      refine lv_iinc (v := v22) (lv' := [(2, .int v22), (0, .ref (ad 1090))]) hx hb dX5_lay_74 hl (k := 1) rfl (Option.some.inj hv22) (by decide) rfl (fun ls hl => ?_)
      refine lv_goto (tgt := 7) hx hb dX5_lay_77 (by decide) ?_
      exact ih7 _ (Option.some.inj hf).symm H locs hP hS ls (lv_sub hl [1, 0] rfl) KE7_0
  obtain ⟨ex7, hlp7, hf⟩ := bdP hf
  refine LP7 (0, (σ.2.2.2.1 1153)) ex7 hlp7 H locs hP hS ls (lv_sub hl [1, 0] rfl) ?_
  intro a23 hex7 H locs hP hS ls hl
  subst ex7
  cases hf
  rw [hQ]; exact g_vret hx hb hr hlk hP hS dX5_lay_80
theorem kxX5_lay_TF_W (l : Launch) (D : va_G) (G : Nat → ClassId) {dsc : Nat → Option Dsc} {ad : Nat → Nat} {σ : Sto} {nr nw nu : Nat} (hD : XD dsc nr nw nu) {w_zI1092 : Int32} {w_aL1153 : Nat → Int64} {z_TF_by : Int32} (e_zI1092 : σ.1 1092 = z_TF_by) {z_TF_times : Int32} (e_zI1094 : σ.1 1094 = z_TF_times) {z_TF_of : Int32} (e_zI1095 : σ.1 1095 = z_TF_of) {z_L_places : Int32} (e_zI2008 : σ.1 2008 = z_L_places) {z_L_to : Int32} (e_zI2013 : σ.1 2013 = z_L_to) {z_Ld_size : Int32} (e_zI2027 : σ.1 2027 = z_Ld_size) {z_Lw_size : Int32} (e_zI2032 : σ.1 2032 = z_Lw_size) {z_TF_none : Int64} (e_zL1091 : σ.2.1 1091 = z_TF_none) {a_X_knowing : Nat → Int32} (e_aI1108 : σ.2.2.1 1108 = a_X_knowing) {a_UNIT : Nat → Int32} (e_aI1170 : σ.2.2.1 1170 = a_UNIT) {a_Lw_data : Nat → Int32} (e_aI2037 : σ.2.2.1 2037 = a_Lw_data) {a_L_seen : Nat → Int32} (e_aI2043 : σ.2.2.1 2043 = a_L_seen) {a_W_world : Nat → Int64} (e_aL1140 : σ.2.2.2.1 1140 = a_W_world) {a_W_likely : Nat → Int64} (e_aL1141 : σ.2.2.2.1 1141 = a_W_likely) {a_TF_value : Nat → Int64} (e_aL1153 : σ.2.2.2.1 1153 = a_TF_value) {n_r : Nat} (e_nN0 : nr = n_r) {n_w : Nat} (e_nN1 : nw = n_w) {p_road_hours : Nat → Int32} (e_pR2 : (fun k => σ.1 (6000 + 16 * k + 2)) = p_road_hours) {p_road_wait : Nat → Int32} (e_pR5 : (fun k => σ.1 (6000 + 16 * k + 5)) = p_road_wait) {p_road_number : Nat → Int32} (e_pR6 : (fun k => σ.1 (6000 + 16 * k + 6)) = p_road_number) {p_word_place : Nat → Int32} (e_pW0 : (fun k => σ.1 (8000 + 16 * k + 0)) = p_word_place) {p_word_road : Nat → Int32} (e_pW1 : (fun k => σ.1 (8000 + 16 * k + 1)) = p_word_road) {p_word_hours : Nat → Int32} (e_pW2 : (fun k => σ.1 (8000 + 16 * k + 2)) = p_word_hours) {g_grid : Nat → Nat → Int32} (e_gG0 : (fun k => σ.2.2.1 (4000 + 16 * k)) = g_grid) (hf : xo_X5_lay_TF_W z_TF_by z_TF_times z_TF_of z_L_places z_L_to z_Ld_size z_Lw_size z_TF_none a_X_knowing a_UNIT a_Lw_data a_L_seen a_W_world a_W_likely a_TF_value n_r n_w p_road_hours p_road_wait p_road_number p_word_place p_word_road p_word_hours g_grid = some (w_zI1092, w_aL1153)) : CtG l D G dsc ad yX5_lay (ws_ yX5_lay cX5_lay 4 (Option.none : Option Jvm.ClassFile.FieldType)) rmX5_lay_TF_W [.ref (ad 1090), .ref (ad 1050)] σ none (aL (zI σ 1092 w_zI1092) 1153 w_aL1153) := by
  subst e_zI1092
  subst e_zI1094
  subst e_zI1095
  subst e_zI2008
  subst e_zI2013
  subst e_zI2027
  subst e_zI2032
  subst e_zL1091
  subst e_aI1108
  subst e_aI1170
  subst e_aI2037
  subst e_aI2043
  subst e_aL1140
  subst e_aL1141
  subst e_aL1153
  subst e_nN0
  subst e_nN1
  subst e_pR2
  subst e_pR5
  subst e_pR6
  subst e_pW0
  subst e_pW1
  subst e_pW2
  subst e_gG0
  exact p_ctG (by decide +kernel) (Nat.le_of_ble_eq_true rfl) (fun p e s m below meth c0 ls A E hP hX hA hS hl => wkX5_lay_TF_W E hX hD hA hf rfl hP hS hl)
theorem ux_X8_45_1090 {v : Int32} {σ1 : Sto} (E : EN p s m args meth c0 RX8 cc nL ret) (hX : KX D G ad A s s.heap) (hD : XD dsc nr nw nu) (hP : PIC D clsA G dsc ad σ H) (hS : va_S A s.heap H locs) (hA : A (ad 1090)) (hσ : zI σ 1094 v = σ1) (hdg : decode cc pc = .ok (.putfield 45, 3)) (kk : ∀ (H1 : Heap) (locs1 : List Loc), PIC D clsA G dsc ad σ1 H1 → va_S A s.heap H1 locs1 → W p l e R s m args below meth c0 H1 locs1 cells slots Q (F0 m (pc + 3) ls rest)) : W p l e R s m args below meth c0 H locs cells slots Q (F0 m pc ls (.int v :: .ref (ad 1090) :: rest)) :=
  p_puti2 E.1.1 E.1.2.1 E.1.2.2.2.2 in_X8 tyX8 tyX8_ok E.1.2.2.2.1 hX.1 hP hS hA (hD.1 _ _ dX_1090) rfl 4 (by decide) (by decide +kernel) (E.1.2.2.2.2 _ q398) (fun _ h => h) rfl rfl rfl rfl rfl hσ hdg kk
theorem ux_X8_53_1090 {v : Int32} {σ1 : Sto} (E : EN p s m args meth c0 RX8 cc nL ret) (hX : KX D G ad A s s.heap) (hD : XD dsc nr nw nu) (hP : PIC D clsA G dsc ad σ H) (hS : va_S A s.heap H locs) (hA : A (ad 1090)) (hσ : zI σ 1095 v = σ1) (hdg : decode cc pc = .ok (.putfield 53, 3)) (kk : ∀ (H1 : Heap) (locs1 : List Loc), PIC D clsA G dsc ad σ1 H1 → va_S A s.heap H1 locs1 → W p l e R s m args below meth c0 H1 locs1 cells slots Q (F0 m (pc + 3) ls rest)) : W p l e R s m args below meth c0 H locs cells slots Q (F0 m pc ls (.int v :: .ref (ad 1090) :: rest)) :=
  p_puti2 E.1.1 E.1.2.1 E.1.2.2.2.2 in_X8 tyX8 tyX8_ok E.1.2.2.2.1 hX.1 hP hS hA (hD.1 _ _ dX_1090) rfl 5 (by decide) (by decide +kernel) (E.1.2.2.2.2 _ q399) (fun _ h => h) rfl rfl rfl rfl rfl hσ hdg kk
theorem gx_X8_62_1000 (E : EN p s m args meth c0 RX8 cc nL ret) (hX : KX D G ad A s s.heap) (hD : XD dsc nr nw nu) (hP : PIC D clsA G dsc ad σ H) (hdg : decode cc pc = .ok (.getfield 62, 3)) (kk : W p l e R s m args below meth c0 H locs cells slots Q (F0 m (pc + 3) ls (.ref (ad 1050) :: rest))) : W p l e R s m args below meth c0 H locs cells slots Q (F0 m pc ls (.ref (ad 1000) :: rest)) :=
  p_getN E.1.1 E.1.2.1 E.1.2.2.2.2 in_X1 E.1.2.2.2.1 hX.1 hP (hD.1 _ _ dX_1000) rfl 6 (by decide) (hX.2.1.1 _ q516 rfl) (fun _ h => h) rfl rfl hdg kk
theorem cx_X8_65_X5_lay_TF_W {rm : Room} {σ1 : Sto} (E : EN p s m args meth c0 RX8 cc nL ret) (hX : KX D G ad A s s.heap) (hD : XD dsc nr nw nu) (hP : PIC D clsA G dsc ad σ H) (hS : va_S A s.heap H locs) (hA : ∀ q, PA dsc ad s.heap.size q → A q) (hM : CtG l D G dsc ad yX5_lay (ws_ yX5_lay cX5_lay 4 (Option.none : Option Jvm.ClassFile.FieldType)) rm [.ref (ad 1090), .ref (ad 1050)] σ none σ1) (hz : rm.cells = 0 ∧ rm.slots = 0) (hR : rm.frames + 1 ≤ R.frames ∧ 8 + (4 + 11) + rm.locals ≤ R.locals) (hcs : cells ≤ R.cells ∧ slots ≤ R.slots) (hsz : ls.size = nL) (hW : (rest.map fun v => v.category).sum ≤ 8) (hdg : decode cc pc = .ok (.invokevirtual 65, 3)) (kk : ∀ (H1 : Heap) (locs1 : List Loc), PIC D clsA G dsc ad σ1 H1 → va_S A s.heap H1 locs1 → W p l e R s m args below meth c0 H1 locs1 cells slots Q (F0 m (pc + 3) ls (rest))) : W p l e R s m args below meth c0 H locs cells slots Q (F0 m pc ls (.ref (ad 1050) :: .ref (ad 1090) :: rest)) :=
  p_gU (As := [.ref (ad 1050)]) (rest := rest) E.1 hX hP hS hA hM (cw_any (owner := "ShutPasses$Table") (x := ⟨"ShutPasses$Spare", "lay", "(LShutPasses$Weights;)V"⟩) (y := yX5_lay) (C := "ShutPasses$Spare") (index := 65) (own := RX8) 1 E.1.2.2.2.2 (lw_meth q1050) rfl hz.1 hz.2 (E.1.2.2.2.2 _ q1328) (E.1.2.2.2.2 _ q1329) (va_Decl.of (E.1.2.2.2.2 _ q1049) (E.1.2.2.2.2 _ q1050)) (E.1.2.2.2.2 _ q1330) (E.1.2.2.2.2 _ q1049) (E.1.2.2.2.2 _ q131) (by decide +kernel) hR) (hD.1 _ _ dX_1090) rfl rfl rfl hsz rfl hW hdg hcs kk
theorem gx_X8_69_2000 {v : Int32} (E : EN p s m args meth c0 RX8 cc nL ret) (hX : KX D G ad A s s.heap) (hD : XD dsc nr nw nu) (hP : PIC D clsA G dsc ad σ H) (hv : σ.1 2012 = v) (hdg : decode cc pc = .ok (.getfield 69, 3)) (kk : W p l e R s m args below meth c0 H locs cells slots Q (F0 m (pc + 3) ls (.int v :: rest))) : W p l e R s m args below meth c0 H locs cells slots Q (F0 m pc ls (.ref (ad 2000) :: rest)) :=
  p_getN E.1.1 E.1.2.1 E.1.2.2.2.2 in_X3 E.1.2.2.2.1 hX.1 hP (hD.1 _ _ dX_2000) rfl 12 (by decide) (hX.2.1.1 _ q277 rfl) (fun _ h => h) rfl (congrArg Value.int hv) hdg kk
theorem cx_X8_72_X5_arriving_TF {rm : Room} {σ1 : Sto} {x1 : Int32} {x2 : Int32} {r : Int64} (E : EN p s m args meth c0 RX8 cc nL ret) (hX : KX D G ad A s s.heap) (hD : XD dsc nr nw nu) (hP : PIC D clsA G dsc ad σ H) (hS : va_S A s.heap H locs) (hA : ∀ q, PA dsc ad s.heap.size q → A q) (hM : CtG l D G dsc ad yX5_arriving (ws_ yX5_arriving cX5_arriving 3 (Option.some Jvm.ClassFile.FieldType.long)) rm [.ref (ad 1090), .int x1, .int x2] σ (some (.long r)) σ1) (hz : rm.cells = 0 ∧ rm.slots = 0) (hR : rm.frames + 1 ≤ R.frames ∧ 8 + (3 + 11) + rm.locals ≤ R.locals) (hcs : cells ≤ R.cells ∧ slots ≤ R.slots) (hsz : ls.size = nL) (hW : (rest.map fun v => v.category).sum ≤ 8) (hdg : decode cc pc = .ok (.invokevirtual 72, 3)) (kk : ∀ (H1 : Heap) (locs1 : List Loc), PIC D clsA G dsc ad σ1 H1 → va_S A s.heap H1 locs1 → W p l e R s m args below meth c0 H1 locs1 cells slots Q (F0 m (pc + 3) ls (.long r :: rest))) : W p l e R s m args below meth c0 H locs cells slots Q (F0 m pc ls (.int x2 :: .int x1 :: .ref (ad 1090) :: rest)) :=
  p_gU (As := [.int x1, .int x2]) (rest := rest) E.1 hX hP hS hA hM (cw_any (owner := "ShutPasses$Table") (x := ⟨"ShutPasses$Spare", "arriving", "(II)J"⟩) (y := yX5_arriving) (C := "ShutPasses$Spare") (index := 72) (own := RX8) 2 E.1.2.2.2.2 (lw_meth q1117) rfl hz.1 hz.2 (E.1.2.2.2.2 _ q1331) (E.1.2.2.2.2 _ q1332) (va_Decl.of (E.1.2.2.2.2 _ q1112) (E.1.2.2.2.2 _ q1117)) (E.1.2.2.2.2 _ q1334) (E.1.2.2.2.2 _ q1112) (E.1.2.2.2.2 _ q131) (by decide +kernel) hR) (hD.1 _ _ dX_1090) rfl rfl rfl hsz rfl hW hdg hcs kk
theorem gx_X8_76_1090 {v : Int64} (E : EN p s m args meth c0 RX8 cc nL ret) (hX : KX D G ad A s s.heap) (hD : XD dsc nr nw nu) (hP : PIC D clsA G dsc ad σ H) (hv : σ.2.1 1091 = v) (hdg : decode cc pc = .ok (.getfield 76, 3)) (kk : W p l e R s m args below meth c0 H locs cells slots Q (F0 m (pc + 3) ls (.long v :: rest))) : W p l e R s m args below meth c0 H locs cells slots Q (F0 m pc ls (.ref (ad 1090) :: rest)) :=
  p_get E.1.1 E.1.2.1 E.1.2.2.2.2 in_X8 E.1.2.2.2.1 hX.1 hP (hD.1 _ _ dX_1090) rfl 1 (by decide) (E.1.2.2.2.2 _ q354) (fun x h => u_same (E.1.2.2.2.2 _ q355) x h) rfl (congrArg Value.long hv) hdg kk
/-! X8_holds_TF (II)Z -/
def sgX8_holds_TF (σ : Sto) (w0 : Int32) (w1 : Int32) (w2 : Int32) (w3 : Nat → Int64) : Sto := aL (zI (zI (zI σ 1092 w0) 1094 w1) 1095 w2) 1153 w3
theorem sgX8_holds_TF_self (σ : Sto) : sgX8_holds_TF σ (σ.1 1092) (σ.1 1094) (σ.1 1095) (σ.2.2.2.1 1153) = σ := by
  unfold sgX8_holds_TF
  simp only [zI_self, zL_self, aI_self, aL_self]
theorem sgX8_holds_TF_zI1092 {σ : Sto} {w0 : Int32} {w1 : Int32} {w2 : Int32} {w3 : Nat → Int64} {g : Int32} : zI (sgX8_holds_TF σ w0 w1 w2 w3) 1092 g = sgX8_holds_TF σ g w1 w2 w3 := (cm_zI_aL _ _ _ _ _).trans (congrArg (fun z => aL z 1153 w3) ((zI_comm _ (by decide) _ _).trans (congrArg (fun z => zI z 1095 w2) ((zI_comm _ (by decide) _ _).trans (congrArg (fun z => zI z 1094 w1) (zI_zI _ 1092 _ _))))))
theorem sgX8_holds_TF_zI1094 {σ : Sto} {w0 : Int32} {w1 : Int32} {w2 : Int32} {w3 : Nat → Int64} {g : Int32} : zI (sgX8_holds_TF σ w0 w1 w2 w3) 1094 g = sgX8_holds_TF σ w0 g w2 w3 := (cm_zI_aL _ _ _ _ _).trans (congrArg (fun z => aL z 1153 w3) ((zI_comm _ (by decide) _ _).trans (congrArg (fun z => zI z 1095 w2) (zI_zI _ 1094 _ _))))
theorem sgX8_holds_TF_zI1095 {σ : Sto} {w0 : Int32} {w1 : Int32} {w2 : Int32} {w3 : Nat → Int64} {g : Int32} : zI (sgX8_holds_TF σ w0 w1 w2 w3) 1095 g = sgX8_holds_TF σ w0 w1 g w3 := (cm_zI_aL _ _ _ _ _).trans (congrArg (fun z => aL z 1153 w3) (zI_zI _ 1095 _ _))
theorem sgX8_holds_TF_aL1153 {σ : Sto} {w0 : Int32} {w1 : Int32} {w2 : Int32} {w3 : Nat → Int64} {g : Nat → Int64} : aL (sgX8_holds_TF σ w0 w1 w2 w3) 1153 g = sgX8_holds_TF σ w0 w1 w2 g := aL_aL _ 1153 _ _
theorem sgX8_holds_TF_rzI1092 {σ : Sto} {w0 : Int32} {w1 : Int32} {w2 : Int32} {w3 : Nat → Int64} : (sgX8_holds_TF σ w0 w1 w2 w3).1 1092 = w0 := rfl
theorem sgX8_holds_TF_rzI1094 {σ : Sto} {w0 : Int32} {w1 : Int32} {w2 : Int32} {w3 : Nat → Int64} : (sgX8_holds_TF σ w0 w1 w2 w3).1 1094 = w1 := rfl
theorem sgX8_holds_TF_rzI1095 {σ : Sto} {w0 : Int32} {w1 : Int32} {w2 : Int32} {w3 : Nat → Int64} : (sgX8_holds_TF σ w0 w1 w2 w3).1 1095 = w2 := rfl
theorem sgX8_holds_TF_rzI2008 {σ : Sto} {w0 : Int32} {w1 : Int32} {w2 : Int32} {w3 : Nat → Int64} : (sgX8_holds_TF σ w0 w1 w2 w3).1 2008 = σ.1 2008 := rfl
theorem sgX8_holds_TF_rzI2012 {σ : Sto} {w0 : Int32} {w1 : Int32} {w2 : Int32} {w3 : Nat → Int64} : (sgX8_holds_TF σ w0 w1 w2 w3).1 2012 = σ.1 2012 := rfl
theorem sgX8_holds_TF_rzI2013 {σ : Sto} {w0 : Int32} {w1 : Int32} {w2 : Int32} {w3 : Nat → Int64} : (sgX8_holds_TF σ w0 w1 w2 w3).1 2013 = σ.1 2013 := rfl
theorem sgX8_holds_TF_rzI2027 {σ : Sto} {w0 : Int32} {w1 : Int32} {w2 : Int32} {w3 : Nat → Int64} : (sgX8_holds_TF σ w0 w1 w2 w3).1 2027 = σ.1 2027 := rfl
theorem sgX8_holds_TF_rzI2032 {σ : Sto} {w0 : Int32} {w1 : Int32} {w2 : Int32} {w3 : Nat → Int64} : (sgX8_holds_TF σ w0 w1 w2 w3).1 2032 = σ.1 2032 := rfl
theorem sgX8_holds_TF_rzL1091 {σ : Sto} {w0 : Int32} {w1 : Int32} {w2 : Int32} {w3 : Nat → Int64} : (sgX8_holds_TF σ w0 w1 w2 w3).2.1 1091 = σ.2.1 1091 := rfl
theorem sgX8_holds_TF_raI1108 {σ : Sto} {w0 : Int32} {w1 : Int32} {w2 : Int32} {w3 : Nat → Int64} : (sgX8_holds_TF σ w0 w1 w2 w3).2.2.1 1108 = σ.2.2.1 1108 := rfl
theorem sgX8_holds_TF_raI1170 {σ : Sto} {w0 : Int32} {w1 : Int32} {w2 : Int32} {w3 : Nat → Int64} : (sgX8_holds_TF σ w0 w1 w2 w3).2.2.1 1170 = σ.2.2.1 1170 := rfl
theorem sgX8_holds_TF_raI2037 {σ : Sto} {w0 : Int32} {w1 : Int32} {w2 : Int32} {w3 : Nat → Int64} : (sgX8_holds_TF σ w0 w1 w2 w3).2.2.1 2037 = σ.2.2.1 2037 := rfl
theorem sgX8_holds_TF_raI2043 {σ : Sto} {w0 : Int32} {w1 : Int32} {w2 : Int32} {w3 : Nat → Int64} : (sgX8_holds_TF σ w0 w1 w2 w3).2.2.1 2043 = σ.2.2.1 2043 := rfl
theorem sgX8_holds_TF_raL1140 {σ : Sto} {w0 : Int32} {w1 : Int32} {w2 : Int32} {w3 : Nat → Int64} : (sgX8_holds_TF σ w0 w1 w2 w3).2.2.2.1 1140 = σ.2.2.2.1 1140 := rfl
theorem sgX8_holds_TF_raL1141 {σ : Sto} {w0 : Int32} {w1 : Int32} {w2 : Int32} {w3 : Nat → Int64} : (sgX8_holds_TF σ w0 w1 w2 w3).2.2.2.1 1141 = σ.2.2.2.1 1141 := rfl
theorem sgX8_holds_TF_raL1153 {σ : Sto} {w0 : Int32} {w1 : Int32} {w2 : Int32} {w3 : Nat → Int64} : (sgX8_holds_TF σ w0 w1 w2 w3).2.2.2.1 1153 = w3 := rfl
theorem sgX8_holds_TF_rpR2 {σ : Sto} {w0 : Int32} {w1 : Int32} {w2 : Int32} {w3 : Nat → Int64} : (fun k => (sgX8_holds_TF σ w0 w1 w2 w3).1 (6000 + 16 * k + 2)) = (fun k => σ.1 (6000 + 16 * k + 2)) := by
  funext k
  unfold sgX8_holds_TF
  dsimp only [zI, zL, aI, aL]
  repeat rw [if_neg (by omega)]
theorem sgX8_holds_TF_rpR5 {σ : Sto} {w0 : Int32} {w1 : Int32} {w2 : Int32} {w3 : Nat → Int64} : (fun k => (sgX8_holds_TF σ w0 w1 w2 w3).1 (6000 + 16 * k + 5)) = (fun k => σ.1 (6000 + 16 * k + 5)) := by
  funext k
  unfold sgX8_holds_TF
  dsimp only [zI, zL, aI, aL]
  repeat rw [if_neg (by omega)]
theorem sgX8_holds_TF_rpR6 {σ : Sto} {w0 : Int32} {w1 : Int32} {w2 : Int32} {w3 : Nat → Int64} : (fun k => (sgX8_holds_TF σ w0 w1 w2 w3).1 (6000 + 16 * k + 6)) = (fun k => σ.1 (6000 + 16 * k + 6)) := by
  funext k
  unfold sgX8_holds_TF
  dsimp only [zI, zL, aI, aL]
  repeat rw [if_neg (by omega)]
theorem sgX8_holds_TF_rpW0 {σ : Sto} {w0 : Int32} {w1 : Int32} {w2 : Int32} {w3 : Nat → Int64} : (fun k => (sgX8_holds_TF σ w0 w1 w2 w3).1 (8000 + 16 * k + 0)) = (fun k => σ.1 (8000 + 16 * k + 0)) := by
  funext k
  unfold sgX8_holds_TF
  dsimp only [zI, zL, aI, aL]
  repeat rw [if_neg (by omega)]
theorem sgX8_holds_TF_rpW1 {σ : Sto} {w0 : Int32} {w1 : Int32} {w2 : Int32} {w3 : Nat → Int64} : (fun k => (sgX8_holds_TF σ w0 w1 w2 w3).1 (8000 + 16 * k + 1)) = (fun k => σ.1 (8000 + 16 * k + 1)) := by
  funext k
  unfold sgX8_holds_TF
  dsimp only [zI, zL, aI, aL]
  repeat rw [if_neg (by omega)]
theorem sgX8_holds_TF_rpW2 {σ : Sto} {w0 : Int32} {w1 : Int32} {w2 : Int32} {w3 : Nat → Int64} : (fun k => (sgX8_holds_TF σ w0 w1 w2 w3).1 (8000 + 16 * k + 2)) = (fun k => σ.1 (8000 + 16 * k + 2)) := by
  funext k
  unfold sgX8_holds_TF
  dsimp only [zI, zL, aI, aL]
  repeat rw [if_neg (by omega)]
theorem sgX8_holds_TF_rgG0 {σ : Sto} {w0 : Int32} {w1 : Int32} {w2 : Int32} {w3 : Nat → Int64} : (fun k => (sgX8_holds_TF σ w0 w1 w2 w3).2.2.1 (4000 + 16 * k)) = (fun k => σ.2.2.1 (4000 + 16 * k)) := by
  funext k
  unfold sgX8_holds_TF
  dsimp only [zI, zL, aI, aL]
  repeat rw [if_neg (by omega)]
abbrev rmX8_holds_TF : Room := { frames := 49, cells := 0, slots := 0, locals := 1337 }
set_option maxHeartbeats 4000000 in
theorem wkX8_holds_TF {x1 : Int32} {x2 : Int32} {r_ : Int32} {w_zI1092 : Int32} {w_zI1094 : Int32} {w_zI1095 : Int32} {w_aL1153 : Nat → Int64} (E : EN p s m args meth c0 RX8 cX8_holds 5 (Option.some Jvm.ClassFile.FieldType.boolean)) (hX : KX D G ad A s s.heap) (hD : XD dsc nr nw nu) (hA : ∀ q, PA dsc ad s.heap.size q → A q) (hf : xo_X8_holds_TF (σ.1 1092) (σ.1 1094) (σ.1 1095) (σ.1 2008) (σ.1 2012) (σ.1 2013) (σ.1 2027) (σ.1 2032) (σ.2.1 1091) (σ.2.2.1 1108) (σ.2.2.1 1170) (σ.2.2.1 2037) (σ.2.2.1 2043) (σ.2.2.2.1 1140) (σ.2.2.2.1 1141) (σ.2.2.2.1 1153) nr nw (fun k => σ.1 (6000 + 16 * k + 2)) (fun k => σ.1 (6000 + 16 * k + 5)) (fun k => σ.1 (6000 + 16 * k + 6)) (fun k => σ.1 (8000 + 16 * k + 0)) (fun k => σ.1 (8000 + 16 * k + 1)) (fun k => σ.1 (8000 + 16 * k + 2)) (fun k => σ.2.2.1 (4000 + 16 * k)) x1 x2 = some (r_, w_zI1092, w_zI1094, w_zI1095, w_aL1153)) (hQ : Q = MQ below (va_G1 (some (.int r_)) (fun t => PIC D clsA G dsc ad (sgX8_holds_TF σ w_zI1092 w_zI1094 w_zI1095 w_aL1153) t.heap) A) args s 0 0 A) (hP : PIC D clsA G dsc ad σ H) (hS : va_S A s.heap H locs) (hl : lv_has ls 5 [(0, .ref (ad 1090)), (1, .int x1), (2, .int x2)]) : W p l e rmX8_holds_TF s m args below meth c0 H locs 0 0 Q (F0 m 0 ls []) := by
  obtain ⟨⟨hx, hb, hml, hown, hts⟩, hr, hlk⟩ := id E
  have hP := hP.to (sgX8_holds_TF_self σ).symm
  unfold xo_X8_holds_TF at hf
  refine lv_aload_n hx hb dX8_holds_0 rfl (lv_at hl 0 rfl) ?_
  refine lv_iload_n hx hb dX8_holds_1 rfl (lv_at hl 1 rfl) ?_
  refine ux_X8_45_1090 E hX hD hP hS (hA _ (PA_c (hD.1 _ _ dX_1090))) sgX8_holds_TF_zI1094 dX8_holds_2 (fun H locs hP hS => ?_)
  refine lv_aload_n hx hb dX8_holds_5 rfl (lv_at hl 0 rfl) ?_
  refine lv_iload_n hx hb dX8_holds_6 rfl (lv_at hl 2 rfl) ?_
  refine ux_X8_53_1090 E hX hD hP hS (hA _ (PA_c (hD.1 _ _ dX_1090))) sgX8_holds_TF_zI1095 dX8_holds_7 (fun H locs hP hS => ?_)
  refine lv_aload_n hx hb dX8_holds_10 rfl (lv_at hl 0 rfl) ?_
  refine lv_aload_n hx hb dX8_holds_11 rfl (lv_at hl 0 rfl) ?_
  refine gx_X8_1_1090 E hX hD hP dX8_holds_12 ?_
  refine gx_X8_62_1000 E hX hD hP dX8_holds_15 ?_
  obtain ⟨⟨z1, a2⟩, u3, hf⟩ := bdP hf
  dsimp only at hf
  refine cx_X8_65_X5_lay_TF_W E hX hD hP hS hA (kxX5_lay_TF_W l D G hD sgX8_holds_TF_rzI1092 sgX8_holds_TF_rzI1094 sgX8_holds_TF_rzI1095 sgX8_holds_TF_rzI2008 sgX8_holds_TF_rzI2013 sgX8_holds_TF_rzI2027 sgX8_holds_TF_rzI2032 sgX8_holds_TF_rzL1091 sgX8_holds_TF_raI1108 sgX8_holds_TF_raI1170 sgX8_holds_TF_raI2037 sgX8_holds_TF_raI2043 sgX8_holds_TF_raL1140 sgX8_holds_TF_raL1141 sgX8_holds_TF_raL1153 rfl rfl sgX8_holds_TF_rpR2 sgX8_holds_TF_rpR5 sgX8_holds_TF_rpR6 sgX8_holds_TF_rpW0 sgX8_holds_TF_rpW1 sgX8_holds_TF_rpW2 sgX8_holds_TF_rgG0 u3) ⟨rfl, rfl⟩ ⟨Nat.le_of_ble_eq_true rfl, Nat.le_of_ble_eq_true rfl⟩ ⟨Nat.zero_le _, Nat.zero_le _⟩ hl.1 (Nat.le_of_ble_eq_true rfl) dX8_holds_18 (fun H locs hP hS => ?_)
  rw [sgX8_holds_TF_zI1092, sgX8_holds_TF_aL1153] at hP
  refine lv_aload_n hx hb dX8_holds_21 rfl (lv_at hl 0 rfl) ?_
  refine lv_aload_n hx hb dX8_holds_22 rfl (lv_at hl 0 rfl) ?_
  refine gx_X8_1_1090 E hX hD hP dX8_holds_23 ?_
  refine gx_X8_19_1000 E hX hD hP dX8_holds_26 ?_
  refine gx_X8_69_2000 (v := (σ.1 2012)) E hX hD hP sgX8_holds_TF_rzI2012 dX8_holds_29 ?_
  refine lv_iconst hx hb dX8_holds_32 ic_0 ?_
  obtain ⟨v4, u5, hf⟩ := bdP hf
  refine cx_X8_72_X5_arriving_TF E hX hD hP hS hA (kxX5_arriving_TF l D G hD sgX8_holds_TF_rzI1092 sgX8_holds_TF_rzI1094 sgX8_holds_TF_rzI1095 sgX8_holds_TF_rzI2013 sgX8_holds_TF_rzI2027 sgX8_holds_TF_rzL1091 sgX8_holds_TF_raI1108 sgX8_holds_TF_raI1170 sgX8_holds_TF_raI2043 sgX8_holds_TF_raL1140 sgX8_holds_TF_raL1141 sgX8_holds_TF_raL1153 u5) ⟨rfl, rfl⟩ ⟨Nat.le_of_ble_eq_true rfl, Nat.le_of_ble_eq_true rfl⟩ ⟨Nat.zero_le _, Nat.zero_le _⟩ hl.1 (Nat.le_of_ble_eq_true rfl) dX8_holds_33 (fun H locs hP hS => ?_)
  refine lv_lstore_n (lv' := [(3, .long v4), (0, .ref (ad 1090)), (1, .int x1), (2, .int x2)]) hx hb dX8_holds_36 rfl hl (by decide) rfl (fun ls hl => ?_)
  refine lv_lload_n hx hb dX8_holds_37 rfl (lv_at hl 0 rfl) ?_
  refine lv_aload_n hx hb dX8_holds_38 rfl (lv_at hl 1 rfl) ?_
  refine gx_X8_76_1090 (v := (σ.2.1 1091)) E hX hD hP sgX8_holds_TF_rzL1091 dX8_holds_39 ?_
  refine W.lcmp hx hb dX8_holds_42 ?_
  have J56 : xo_X8_holds_TF_J56 x1 z1 a2 x2 = some (r_, w_zI1092, w_zI1094, w_zI1095, w_aL1153) → ∀ (H : Heap) (locs : List Loc), PIC D clsA G dsc ad (sgX8_holds_TF σ z1 x1 x2 a2) H → va_S A s.heap H locs → ∀ (ls : Array Slot), lv_has ls 5 [] → W p l e rmX8_holds_TF s m args below meth c0 H locs 0 0 Q (F0 m 56 ls []) := by
    intro  hf H locs hP hS ls hl
    unfold xo_X8_holds_TF_J56 at hf
    refine lv_iconst hx hb dX8_holds_56 ic_0 ?_
    cases hf
    rw [hQ]; exact g_nret hx hb hr hlk hP hS rfl dX8_holds_57
  refine lv_if_eq (tgt := 56) hx hb dX8_holds_43 (by decide) (fun c6 => ?_) (fun c6 => ?_)
  · have hf := ifT ((lgc_eq _ _).mp c6) hf
    exact J56  hf H locs hP hS ls (lv_sub hl [] rfl)
  · have hf := ifF (mt (lgc_eq _ _).mpr c6) hf
    refine lv_lload_n hx hb dX8_holds_46 rfl (lv_at hl 0 rfl) ?_
    refine lv_lconst hx hb dX8_holds_47 lc_0 ?_
    refine W.lcmp hx hb dX8_holds_48 ?_
    refine lv_if_lt (tgt := 56) hx hb dX8_holds_49 (by decide) (fun c7 => ?_) (fun c7 => ?_)
    · have hf := ifT ((lgc_lt _ _).mp c7) hf
      exact J56  hf H locs hP hS ls (lv_sub hl [] rfl)
    · have hf := ifF (mt (lgc_lt _ _).mpr c7) hf
      refine lv_iconst hx hb dX8_holds_52 ic_1 ?_
      refine lv_goto (tgt := 57) hx hb dX8_holds_53 (by decide) ?_
      cases hf
      rw [hQ]; exact g_nret hx hb hr hlk hP hS rfl dX8_holds_57
theorem kxX8_holds_TF (l : Launch) (D : va_G) (G : Nat → ClassId) {dsc : Nat → Option Dsc} {ad : Nat → Nat} {σ : Sto} {nr nw nu : Nat} (hD : XD dsc nr nw nu) {x1 : Int32} {x2 : Int32} {r_ : Int32} {w_zI1092 : Int32} {w_zI1094 : Int32} {w_zI1095 : Int32} {w_aL1153 : Nat → Int64} {z_TF_by : Int32} (e_zI1092 : σ.1 1092 = z_TF_by) {z_TF_times : Int32} (e_zI1094 : σ.1 1094 = z_TF_times) {z_TF_of : Int32} (e_zI1095 : σ.1 1095 = z_TF_of) {z_L_places : Int32} (e_zI2008 : σ.1 2008 = z_L_places) {z_L_from : Int32} (e_zI2012 : σ.1 2012 = z_L_from) {z_L_to : Int32} (e_zI2013 : σ.1 2013 = z_L_to) {z_Ld_size : Int32} (e_zI2027 : σ.1 2027 = z_Ld_size) {z_Lw_size : Int32} (e_zI2032 : σ.1 2032 = z_Lw_size) {z_TF_none : Int64} (e_zL1091 : σ.2.1 1091 = z_TF_none) {a_X_knowing : Nat → Int32} (e_aI1108 : σ.2.2.1 1108 = a_X_knowing) {a_UNIT : Nat → Int32} (e_aI1170 : σ.2.2.1 1170 = a_UNIT) {a_Lw_data : Nat → Int32} (e_aI2037 : σ.2.2.1 2037 = a_Lw_data) {a_L_seen : Nat → Int32} (e_aI2043 : σ.2.2.1 2043 = a_L_seen) {a_W_world : Nat → Int64} (e_aL1140 : σ.2.2.2.1 1140 = a_W_world) {a_W_likely : Nat → Int64} (e_aL1141 : σ.2.2.2.1 1141 = a_W_likely) {a_TF_value : Nat → Int64} (e_aL1153 : σ.2.2.2.1 1153 = a_TF_value) {n_r : Nat} (e_nN0 : nr = n_r) {n_w : Nat} (e_nN1 : nw = n_w) {p_road_hours : Nat → Int32} (e_pR2 : (fun k => σ.1 (6000 + 16 * k + 2)) = p_road_hours) {p_road_wait : Nat → Int32} (e_pR5 : (fun k => σ.1 (6000 + 16 * k + 5)) = p_road_wait) {p_road_number : Nat → Int32} (e_pR6 : (fun k => σ.1 (6000 + 16 * k + 6)) = p_road_number) {p_word_place : Nat → Int32} (e_pW0 : (fun k => σ.1 (8000 + 16 * k + 0)) = p_word_place) {p_word_road : Nat → Int32} (e_pW1 : (fun k => σ.1 (8000 + 16 * k + 1)) = p_word_road) {p_word_hours : Nat → Int32} (e_pW2 : (fun k => σ.1 (8000 + 16 * k + 2)) = p_word_hours) {g_grid : Nat → Nat → Int32} (e_gG0 : (fun k => σ.2.2.1 (4000 + 16 * k)) = g_grid) (hf : xo_X8_holds_TF z_TF_by z_TF_times z_TF_of z_L_places z_L_from z_L_to z_Ld_size z_Lw_size z_TF_none a_X_knowing a_UNIT a_Lw_data a_L_seen a_W_world a_W_likely a_TF_value n_r n_w p_road_hours p_road_wait p_road_number p_word_place p_word_road p_word_hours g_grid x1 x2 = some (r_, w_zI1092, w_zI1094, w_zI1095, w_aL1153)) : CtG l D G dsc ad yX8_holds (ws_ yX8_holds cX8_holds 5 (Option.some Jvm.ClassFile.FieldType.boolean)) rmX8_holds_TF [.ref (ad 1090), .int x1, .int x2] σ (some (.int r_)) (aL (zI (zI (zI σ 1092 w_zI1092) 1094 w_zI1094) 1095 w_zI1095) 1153 w_aL1153) := by
  subst e_zI1092
  subst e_zI1094
  subst e_zI1095
  subst e_zI2008
  subst e_zI2012
  subst e_zI2013
  subst e_zI2027
  subst e_zI2032
  subst e_zL1091
  subst e_aI1108
  subst e_aI1170
  subst e_aI2037
  subst e_aI2043
  subst e_aL1140
  subst e_aL1141
  subst e_aL1153
  subst e_nN0
  subst e_nN1
  subst e_pR2
  subst e_pR5
  subst e_pR6
  subst e_pW0
  subst e_pW1
  subst e_pW2
  subst e_gG0
  exact p_ctG (by decide +kernel) (Nat.le_of_ble_eq_true rfl) (fun p e s m below meth c0 ls A E hP hX hA hS hl => wkX8_holds_TF E hX hD hA hf rfl hP hS hl)
theorem ux_X1_175_1000 {v : Int32} {σ1 : Sto} (E : EN p s m args meth c0 RX1 cc nL ret) (hX : KX D G ad A s s.heap) (hD : XD dsc nr nw nu) (hP : PIC D clsA G dsc ad σ H) (hS : va_S A s.heap H locs) (hA : A (ad 1000)) (hz : narrow .boolean (.int v) = .int v) (hz2 : fits .boolean (.int v) = true) (hσ : zI σ 1019 v = σ1) (hdg : decode cc pc = .ok (.putfield 175, 3)) (kk : ∀ (H1 : Heap) (locs1 : List Loc), PIC D clsA G dsc ad σ1 H1 → va_S A s.heap H1 locs1 → W p l e R s m args below meth c0 H1 locs1 cells slots Q (F0 m (pc + 3) ls rest)) : W p l e R s m args below meth c0 H locs cells slots Q (F0 m pc ls (.int v :: .ref (ad 1000) :: rest)) :=
  p_puti2 E.1.1 E.1.2.1 E.1.2.2.2.2 in_X1 tyX1 tyX1_ok E.1.2.2.2.1 hX.1 hP hS hA (hD.1 _ _ dX_1000) rfl 19 (by decide) (by decide +kernel) (E.1.2.2.2.2 _ q531) (fun _ h => h) rfl rfl hz hz2 rfl hσ hdg kk
theorem ux_X1_296_1000 {v : Int32} {σ1 : Sto} (E : EN p s m args meth c0 RX1 cc nL ret) (hX : KX D G ad A s s.heap) (hD : XD dsc nr nw nu) (hP : PIC D clsA G dsc ad σ H) (hS : va_S A s.heap H locs) (hA : A (ad 1000)) (hz : narrow .boolean (.int v) = .int v) (hz2 : fits .boolean (.int v) = true) (hσ : zI σ 1020 v = σ1) (hdg : decode cc pc = .ok (.putfield 296, 3)) (kk : ∀ (H1 : Heap) (locs1 : List Loc), PIC D clsA G dsc ad σ1 H1 → va_S A s.heap H1 locs1 → W p l e R s m args below meth c0 H1 locs1 cells slots Q (F0 m (pc + 3) ls rest)) : W p l e R s m args below meth c0 H locs cells slots Q (F0 m pc ls (.int v :: .ref (ad 1000) :: rest)) :=
  p_puti2 E.1.1 E.1.2.1 E.1.2.2.2.2 in_X1 tyX1 tyX1_ok E.1.2.2.2.1 hX.1 hP hS hA (hD.1 _ _ dX_1000) rfl 20 (by decide) (by decide +kernel) (E.1.2.2.2.2 _ q532) (fun _ h => h) rfl rfl hz hz2 rfl hσ hdg kk
theorem gx_X1_113_1000 (E : EN p s m args meth c0 RX1 cc nL ret) (hX : KX D G ad A s s.heap) (hD : XD dsc nr nw nu) (hP : PIC D clsA G dsc ad σ H) (hdg : decode cc pc = .ok (.getfield 113, 3)) (kk : W p l e R s m args below meth c0 H locs cells slots Q (F0 m (pc + 3) ls (.ref (ad 1117) :: rest))) : W p l e R s m args below meth c0 H locs cells slots Q (F0 m pc ls (.ref (ad 1000) :: rest)) :=
  p_get E.1.1 E.1.2.1 E.1.2.2.2.2 in_X1 E.1.2.2.2.1 hX.1 hP (hD.1 _ _ dX_1000) rfl 17 (by decide) (E.1.2.2.2.2 _ q529) (fun _ h => h) rfl rfl hdg kk
theorem cx_X1_299_X9_worst_p1 {rm : Room} {σ1 : Sto} {r : Int32} (E : EN p s m args meth c0 RX1 cc nL ret) (hX : KX D G ad A s s.heap) (hD : XD dsc nr nw nu) (hP : PIC D clsA G dsc ad σ H) (hS : va_S A s.heap H locs) (hA : ∀ q, PA dsc ad s.heap.size q → A q) (hM : CtG l D G dsc ad yX9_worst (ws_ yX9_worst cX9_worst 4 (Option.some Jvm.ClassFile.FieldType.int)) rm [.ref (ad 1416)] σ (some (.int r)) σ1) (hz : rm.cells = 0 ∧ rm.slots = 0) (hR : rm.frames + 1 ≤ R.frames ∧ 8 + (4 + 11) + rm.locals ≤ R.locals) (hcs : cells ≤ R.cells ∧ slots ≤ R.slots) (hsz : ls.size = nL) (hW : (rest.map fun v => v.category).sum ≤ 8) (hdg : decode cc pc = .ok (.invokevirtual 299, 3)) (kk : ∀ (H1 : Heap) (locs1 : List Loc), PIC D clsA G dsc ad σ1 H1 → va_S A s.heap H1 locs1 → W p l e R s m args below meth c0 H1 locs1 cells slots Q (F0 m (pc + 3) ls (.int r :: rest))) : W p l e R s m args below meth c0 H locs cells slots Q (F0 m pc ls (.ref (ad 1416) :: rest)) :=
  p_gU (As := []) (rest := rest) E.1 hX hP hS hA hM (cw_any (owner := "ShutPasses$Plan") (x := ⟨"ShutPasses$Plan", "worst", "()I"⟩) (y := yX9_worst) (C := "ShutPasses$ByTable") (index := 299) (own := RX1) 0 E.1.2.2.2.2 (lw_meth q1273) rfl hz.1 hz.2 (E.1.2.2.2.2 _ q1265) (E.1.2.2.2.2 _ q1267) (va_Decl.of (E.1.2.2.2.2 _ q1266) (E.1.2.2.2.2 _ q1273)) (E.1.2.2.2.2 _ q1269) (E.1.2.2.2.2 _ q1266) (E.1.2.2.2.2 _ q135) (by decide +kernel) hR) (hD.1 _ _ dX_1416) rfl rfl rfl hsz rfl hW hdg hcs kk
theorem cx_X1_308_X1_isAhead {rm : Room} {σ1 : Sto} {x1 : Int32} {r : Int32} (E : EN p s m args meth c0 RX1 cc nL ret) (hX : KX D G ad A s s.heap) (hD : XD dsc nr nw nu) (hP : PIC D clsA G dsc ad σ H) (hS : va_S A s.heap H locs) (hA : ∀ q, PA dsc ad s.heap.size q → A q) (hM : CtG l D G dsc ad yX1_isAhead (ws_ yX1_isAhead cX1_isAhead 3 (Option.some Jvm.ClassFile.FieldType.boolean)) rm [.ref (ad 1000), .int x1] σ (some (.int r)) σ1) (hz : rm.cells = 0 ∧ rm.slots = 0) (hR : rm.frames + 1 ≤ R.frames ∧ 8 + (3 + 11) + rm.locals ≤ R.locals) (hcs : cells ≤ R.cells ∧ slots ≤ R.slots) (hsz : ls.size = nL) (hW : (rest.map fun v => v.category).sum ≤ 8) (hdg : decode cc pc = .ok (.invokevirtual 308, 3)) (kk : ∀ (H1 : Heap) (locs1 : List Loc), PIC D clsA G dsc ad σ1 H1 → va_S A s.heap H1 locs1 → W p l e R s m args below meth c0 H1 locs1 cells slots Q (F0 m (pc + 3) ls (.int r :: rest))) : W p l e R s m args below meth c0 H locs cells slots Q (F0 m pc ls (.int x1 :: .ref (ad 1000) :: rest)) :=
  p_gV (As := [.int x1]) (rest := rest) E.1 hX hP hS hA hM (cwV 1 E.1.2.2.2.2 (lw_V q1320 q1322 qs30 q124 q1323) rfl hz.1 hz.2 (by decide +kernel) hR) (hD.1 _ _ dX_1000) rfl rfl rfl hsz rfl hW hdg hcs kk
theorem gx_X1_70_1000 (E : EN p s m args meth c0 RX1 cc nL ret) (hX : KX D G ad A s s.heap) (hD : XD dsc nr nw nu) (hP : PIC D clsA G dsc ad σ H) (hdg : decode cc pc = .ok (.getfield 70, 3)) (kk : W p l e R s m args below meth c0 H locs cells slots Q (F0 m (pc + 3) ls (.ref (ad 1090) :: rest))) : W p l e R s m args below meth c0 H locs cells slots Q (F0 m pc ls (.ref (ad 1000) :: rest)) :=
  p_get E.1.1 E.1.2.1 E.1.2.2.2.2 in_X1 E.1.2.2.2.1 hX.1 hP (hD.1 _ _ dX_1000) rfl 12 (by decide) (E.1.2.2.2.2 _ q523) (fun _ h => h) rfl rfl hdg kk
theorem cx_X1_311_X8_holds_TF {rm : Room} {σ1 : Sto} {x1 : Int32} {x2 : Int32} {r : Int32} (E : EN p s m args meth c0 RX1 cc nL ret) (hX : KX D G ad A s s.heap) (hD : XD dsc nr nw nu) (hP : PIC D clsA G dsc ad σ H) (hS : va_S A s.heap H locs) (hA : ∀ q, PA dsc ad s.heap.size q → A q) (hM : CtG l D G dsc ad yX8_holds (ws_ yX8_holds cX8_holds 5 (Option.some Jvm.ClassFile.FieldType.boolean)) rm [.ref (ad 1090), .int x1, .int x2] σ (some (.int r)) σ1) (hz : rm.cells = 0 ∧ rm.slots = 0) (hR : rm.frames + 1 ≤ R.frames ∧ 8 + (5 + 11) + rm.locals ≤ R.locals) (hcs : cells ≤ R.cells ∧ slots ≤ R.slots) (hsz : ls.size = nL) (hW : (rest.map fun v => v.category).sum ≤ 8) (hdg : decode cc pc = .ok (.invokevirtual 311, 3)) (kk : ∀ (H1 : Heap) (locs1 : List Loc), PIC D clsA G dsc ad σ1 H1 → va_S A s.heap H1 locs1 → W p l e R s m args below meth c0 H1 locs1 cells slots Q (F0 m (pc + 3) ls (.int r :: rest))) : W p l e R s m args below meth c0 H locs cells slots Q (F0 m pc ls (.int x2 :: .int x1 :: .ref (ad 1090) :: rest)) :=
  p_gV (As := [.int x1, .int x2]) (rest := rest) E.1 hX hP hS hA hM (cwV 2 E.1.2.2.2.2 (lw_V q1324 q1325 q1326 q134 q1327) rfl hz.1 hz.2 (by decide +kernel) hR) (hD.1 _ _ dX_1090) rfl rfl rfl hsz rfl hW hdg hcs kk
/-! X1_seekFair ()V -/
def sgX1_seekFair (σ : Sto) (w0 : Int32) (w1 : Int32) (w2 : Int32) (w3 : Int32) (w4 : Int32) (w5 : Nat → Int64) : Sto := aL (zI (zI (zI (zI (zI σ 1019 w0) 1020 w1) 1092 w2) 1094 w3) 1095 w4) 1153 w5
theorem sgX1_seekFair_self (σ : Sto) : sgX1_seekFair σ (σ.1 1019) (σ.1 1020) (σ.1 1092) (σ.1 1094) (σ.1 1095) (σ.2.2.2.1 1153) = σ := by
  unfold sgX1_seekFair
  simp only [zI_self, zL_self, aI_self, aL_self]
theorem sgX1_seekFair_zI1019 {σ : Sto} {w0 : Int32} {w1 : Int32} {w2 : Int32} {w3 : Int32} {w4 : Int32} {w5 : Nat → Int64} {g : Int32} : zI (sgX1_seekFair σ w0 w1 w2 w3 w4 w5) 1019 g = sgX1_seekFair σ g w1 w2 w3 w4 w5 := (cm_zI_aL _ _ _ _ _).trans (congrArg (fun z => aL z 1153 w5) ((zI_comm _ (by decide) _ _).trans (congrArg (fun z => zI z 1095 w4) ((zI_comm _ (by decide) _ _).trans (congrArg (fun z => zI z 1094 w3) ((zI_comm _ (by decide) _ _).trans (congrArg (fun z => zI z 1092 w2) ((zI_comm _ (by decide) _ _).trans (congrArg (fun z => zI z 1020 w1) (zI_zI _ 1019 _ _))))))))))
theorem sgX1_seekFair_zI1020 {σ : Sto} {w0 : Int32} {w1 : Int32} {w2 : Int32} {w3 : Int32} {w4 : Int32} {w5 : Nat → Int64} {g : Int32} : zI (sgX1_seekFair σ w0 w1 w2 w3 w4 w5) 1020 g = sgX1_seekFair σ w0 g w2 w3 w4 w5 := (cm_zI_aL _ _ _ _ _).trans (congrArg (fun z => aL z 1153 w5) ((zI_comm _ (by decide) _ _).trans (congrArg (fun z => zI z 1095 w4) ((zI_comm _ (by decide) _ _).trans (congrArg (fun z => zI z 1094 w3) ((zI_comm _ (by decide) _ _).trans (congrArg (fun z => zI z 1092 w2) (zI_zI _ 1020 _ _))))))))
theorem sgX1_seekFair_zI1092 {σ : Sto} {w0 : Int32} {w1 : Int32} {w2 : Int32} {w3 : Int32} {w4 : Int32} {w5 : Nat → Int64} {g : Int32} : zI (sgX1_seekFair σ w0 w1 w2 w3 w4 w5) 1092 g = sgX1_seekFair σ w0 w1 g w3 w4 w5 := (cm_zI_aL _ _ _ _ _).trans (congrArg (fun z => aL z 1153 w5) ((zI_comm _ (by decide) _ _).trans (congrArg (fun z => zI z 1095 w4) ((zI_comm _ (by decide) _ _).trans (congrArg (fun z => zI z 1094 w3) (zI_zI _ 1092 _ _))))))
theorem sgX1_seekFair_zI1094 {σ : Sto} {w0 : Int32} {w1 : Int32} {w2 : Int32} {w3 : Int32} {w4 : Int32} {w5 : Nat → Int64} {g : Int32} : zI (sgX1_seekFair σ w0 w1 w2 w3 w4 w5) 1094 g = sgX1_seekFair σ w0 w1 w2 g w4 w5 := (cm_zI_aL _ _ _ _ _).trans (congrArg (fun z => aL z 1153 w5) ((zI_comm _ (by decide) _ _).trans (congrArg (fun z => zI z 1095 w4) (zI_zI _ 1094 _ _))))
theorem sgX1_seekFair_zI1095 {σ : Sto} {w0 : Int32} {w1 : Int32} {w2 : Int32} {w3 : Int32} {w4 : Int32} {w5 : Nat → Int64} {g : Int32} : zI (sgX1_seekFair σ w0 w1 w2 w3 w4 w5) 1095 g = sgX1_seekFair σ w0 w1 w2 w3 g w5 := (cm_zI_aL _ _ _ _ _).trans (congrArg (fun z => aL z 1153 w5) (zI_zI _ 1095 _ _))
theorem sgX1_seekFair_aL1153 {σ : Sto} {w0 : Int32} {w1 : Int32} {w2 : Int32} {w3 : Int32} {w4 : Int32} {w5 : Nat → Int64} {g : Nat → Int64} : aL (sgX1_seekFair σ w0 w1 w2 w3 w4 w5) 1153 g = sgX1_seekFair σ w0 w1 w2 w3 w4 g := aL_aL _ 1153 _ _
theorem sgX1_seekFair_rzI1019 {σ : Sto} {w0 : Int32} {w1 : Int32} {w2 : Int32} {w3 : Int32} {w4 : Int32} {w5 : Nat → Int64} : (sgX1_seekFair σ w0 w1 w2 w3 w4 w5).1 1019 = w0 := rfl
theorem sgX1_seekFair_rzI1020 {σ : Sto} {w0 : Int32} {w1 : Int32} {w2 : Int32} {w3 : Int32} {w4 : Int32} {w5 : Nat → Int64} : (sgX1_seekFair σ w0 w1 w2 w3 w4 w5).1 1020 = w1 := rfl
theorem sgX1_seekFair_rzI1082 {σ : Sto} {w0 : Int32} {w1 : Int32} {w2 : Int32} {w3 : Int32} {w4 : Int32} {w5 : Nat → Int64} : (sgX1_seekFair σ w0 w1 w2 w3 w4 w5).1 1082 = σ.1 1082 := rfl
theorem sgX1_seekFair_rzI1092 {σ : Sto} {w0 : Int32} {w1 : Int32} {w2 : Int32} {w3 : Int32} {w4 : Int32} {w5 : Nat → Int64} : (sgX1_seekFair σ w0 w1 w2 w3 w4 w5).1 1092 = w2 := rfl
theorem sgX1_seekFair_rzI1094 {σ : Sto} {w0 : Int32} {w1 : Int32} {w2 : Int32} {w3 : Int32} {w4 : Int32} {w5 : Nat → Int64} : (sgX1_seekFair σ w0 w1 w2 w3 w4 w5).1 1094 = w3 := rfl
theorem sgX1_seekFair_rzI1095 {σ : Sto} {w0 : Int32} {w1 : Int32} {w2 : Int32} {w3 : Int32} {w4 : Int32} {w5 : Nat → Int64} : (sgX1_seekFair σ w0 w1 w2 w3 w4 w5).1 1095 = w4 := rfl
theorem sgX1_seekFair_rzI2008 {σ : Sto} {w0 : Int32} {w1 : Int32} {w2 : Int32} {w3 : Int32} {w4 : Int32} {w5 : Nat → Int64} : (sgX1_seekFair σ w0 w1 w2 w3 w4 w5).1 2008 = σ.1 2008 := rfl
theorem sgX1_seekFair_rzI2012 {σ : Sto} {w0 : Int32} {w1 : Int32} {w2 : Int32} {w3 : Int32} {w4 : Int32} {w5 : Nat → Int64} : (sgX1_seekFair σ w0 w1 w2 w3 w4 w5).1 2012 = σ.1 2012 := rfl
theorem sgX1_seekFair_rzI2013 {σ : Sto} {w0 : Int32} {w1 : Int32} {w2 : Int32} {w3 : Int32} {w4 : Int32} {w5 : Nat → Int64} : (sgX1_seekFair σ w0 w1 w2 w3 w4 w5).1 2013 = σ.1 2013 := rfl
theorem sgX1_seekFair_rzI2027 {σ : Sto} {w0 : Int32} {w1 : Int32} {w2 : Int32} {w3 : Int32} {w4 : Int32} {w5 : Nat → Int64} : (sgX1_seekFair σ w0 w1 w2 w3 w4 w5).1 2027 = σ.1 2027 := rfl
theorem sgX1_seekFair_rzI2032 {σ : Sto} {w0 : Int32} {w1 : Int32} {w2 : Int32} {w3 : Int32} {w4 : Int32} {w5 : Nat → Int64} : (sgX1_seekFair σ w0 w1 w2 w3 w4 w5).1 2032 = σ.1 2032 := rfl
theorem sgX1_seekFair_rzL1081 {σ : Sto} {w0 : Int32} {w1 : Int32} {w2 : Int32} {w3 : Int32} {w4 : Int32} {w5 : Nat → Int64} : (sgX1_seekFair σ w0 w1 w2 w3 w4 w5).2.1 1081 = σ.2.1 1081 := rfl
theorem sgX1_seekFair_rzL1091 {σ : Sto} {w0 : Int32} {w1 : Int32} {w2 : Int32} {w3 : Int32} {w4 : Int32} {w5 : Nat → Int64} : (sgX1_seekFair σ w0 w1 w2 w3 w4 w5).2.1 1091 = σ.2.1 1091 := rfl
theorem sgX1_seekFair_raI1108 {σ : Sto} {w0 : Int32} {w1 : Int32} {w2 : Int32} {w3 : Int32} {w4 : Int32} {w5 : Nat → Int64} : (sgX1_seekFair σ w0 w1 w2 w3 w4 w5).2.2.1 1108 = σ.2.2.1 1108 := rfl
theorem sgX1_seekFair_raI1170 {σ : Sto} {w0 : Int32} {w1 : Int32} {w2 : Int32} {w3 : Int32} {w4 : Int32} {w5 : Nat → Int64} : (sgX1_seekFair σ w0 w1 w2 w3 w4 w5).2.2.1 1170 = σ.2.2.1 1170 := rfl
theorem sgX1_seekFair_raI2037 {σ : Sto} {w0 : Int32} {w1 : Int32} {w2 : Int32} {w3 : Int32} {w4 : Int32} {w5 : Nat → Int64} : (sgX1_seekFair σ w0 w1 w2 w3 w4 w5).2.2.1 2037 = σ.2.2.1 2037 := rfl
theorem sgX1_seekFair_raI2043 {σ : Sto} {w0 : Int32} {w1 : Int32} {w2 : Int32} {w3 : Int32} {w4 : Int32} {w5 : Nat → Int64} : (sgX1_seekFair σ w0 w1 w2 w3 w4 w5).2.2.1 2043 = σ.2.2.1 2043 := rfl
theorem sgX1_seekFair_raL1140 {σ : Sto} {w0 : Int32} {w1 : Int32} {w2 : Int32} {w3 : Int32} {w4 : Int32} {w5 : Nat → Int64} : (sgX1_seekFair σ w0 w1 w2 w3 w4 w5).2.2.2.1 1140 = σ.2.2.2.1 1140 := rfl
theorem sgX1_seekFair_raL1141 {σ : Sto} {w0 : Int32} {w1 : Int32} {w2 : Int32} {w3 : Int32} {w4 : Int32} {w5 : Nat → Int64} : (sgX1_seekFair σ w0 w1 w2 w3 w4 w5).2.2.2.1 1141 = σ.2.2.2.1 1141 := rfl
theorem sgX1_seekFair_raL1152 {σ : Sto} {w0 : Int32} {w1 : Int32} {w2 : Int32} {w3 : Int32} {w4 : Int32} {w5 : Nat → Int64} : (sgX1_seekFair σ w0 w1 w2 w3 w4 w5).2.2.2.1 1152 = σ.2.2.2.1 1152 := rfl
theorem sgX1_seekFair_raL1153 {σ : Sto} {w0 : Int32} {w1 : Int32} {w2 : Int32} {w3 : Int32} {w4 : Int32} {w5 : Nat → Int64} : (sgX1_seekFair σ w0 w1 w2 w3 w4 w5).2.2.2.1 1153 = w5 := rfl
theorem sgX1_seekFair_rpR2 {σ : Sto} {w0 : Int32} {w1 : Int32} {w2 : Int32} {w3 : Int32} {w4 : Int32} {w5 : Nat → Int64} : (fun k => (sgX1_seekFair σ w0 w1 w2 w3 w4 w5).1 (6000 + 16 * k + 2)) = (fun k => σ.1 (6000 + 16 * k + 2)) := by
  funext k
  unfold sgX1_seekFair
  dsimp only [zI, zL, aI, aL]
  repeat rw [if_neg (by omega)]
theorem sgX1_seekFair_rpR5 {σ : Sto} {w0 : Int32} {w1 : Int32} {w2 : Int32} {w3 : Int32} {w4 : Int32} {w5 : Nat → Int64} : (fun k => (sgX1_seekFair σ w0 w1 w2 w3 w4 w5).1 (6000 + 16 * k + 5)) = (fun k => σ.1 (6000 + 16 * k + 5)) := by
  funext k
  unfold sgX1_seekFair
  dsimp only [zI, zL, aI, aL]
  repeat rw [if_neg (by omega)]
theorem sgX1_seekFair_rpR6 {σ : Sto} {w0 : Int32} {w1 : Int32} {w2 : Int32} {w3 : Int32} {w4 : Int32} {w5 : Nat → Int64} : (fun k => (sgX1_seekFair σ w0 w1 w2 w3 w4 w5).1 (6000 + 16 * k + 6)) = (fun k => σ.1 (6000 + 16 * k + 6)) := by
  funext k
  unfold sgX1_seekFair
  dsimp only [zI, zL, aI, aL]
  repeat rw [if_neg (by omega)]
theorem sgX1_seekFair_rpW0 {σ : Sto} {w0 : Int32} {w1 : Int32} {w2 : Int32} {w3 : Int32} {w4 : Int32} {w5 : Nat → Int64} : (fun k => (sgX1_seekFair σ w0 w1 w2 w3 w4 w5).1 (8000 + 16 * k + 0)) = (fun k => σ.1 (8000 + 16 * k + 0)) := by
  funext k
  unfold sgX1_seekFair
  dsimp only [zI, zL, aI, aL]
  repeat rw [if_neg (by omega)]
theorem sgX1_seekFair_rpW1 {σ : Sto} {w0 : Int32} {w1 : Int32} {w2 : Int32} {w3 : Int32} {w4 : Int32} {w5 : Nat → Int64} : (fun k => (sgX1_seekFair σ w0 w1 w2 w3 w4 w5).1 (8000 + 16 * k + 1)) = (fun k => σ.1 (8000 + 16 * k + 1)) := by
  funext k
  unfold sgX1_seekFair
  dsimp only [zI, zL, aI, aL]
  repeat rw [if_neg (by omega)]
theorem sgX1_seekFair_rpW2 {σ : Sto} {w0 : Int32} {w1 : Int32} {w2 : Int32} {w3 : Int32} {w4 : Int32} {w5 : Nat → Int64} : (fun k => (sgX1_seekFair σ w0 w1 w2 w3 w4 w5).1 (8000 + 16 * k + 2)) = (fun k => σ.1 (8000 + 16 * k + 2)) := by
  funext k
  unfold sgX1_seekFair
  dsimp only [zI, zL, aI, aL]
  repeat rw [if_neg (by omega)]
theorem sgX1_seekFair_rgG0 {σ : Sto} {w0 : Int32} {w1 : Int32} {w2 : Int32} {w3 : Int32} {w4 : Int32} {w5 : Nat → Int64} : (fun k => (sgX1_seekFair σ w0 w1 w2 w3 w4 w5).2.2.1 (4000 + 16 * k)) = (fun k => σ.2.2.1 (4000 + 16 * k)) := by
  funext k
  unfold sgX1_seekFair
  dsimp only [zI, zL, aI, aL]
  repeat rw [if_neg (by omega)]
abbrev rmX1_seekFair : Room := { frames := 50, cells := 0, slots := 0, locals := 1361 }
set_option maxHeartbeats 4000000 in
theorem wkX1_seekFair {w_zI1019 : Int32} {w_zI1020 : Int32} {w_zI1092 : Int32} {w_zI1094 : Int32} {w_zI1095 : Int32} {w_aL1153 : Nat → Int64} (E : EN p s m args meth c0 RX1 cX1_seekFair 9 (Option.none : Option Jvm.ClassFile.FieldType)) (hX : KX D G ad A s s.heap) (hD : XD dsc nr nw nu) (hA : ∀ q, PA dsc ad s.heap.size q → A q) (hf : xo_X1_seekFair (σ.1 1019) (σ.1 1020) (σ.1 1082) (σ.1 1092) (σ.1 1094) (σ.1 1095) (σ.1 2008) (σ.1 2012) (σ.1 2013) (σ.1 2027) (σ.1 2032) (σ.2.1 1081) (σ.2.1 1091) (σ.2.2.1 1108) (σ.2.2.1 1170) (σ.2.2.1 2037) (σ.2.2.1 2043) (σ.2.2.2.1 1140) (σ.2.2.2.1 1141) (σ.2.2.2.1 1152) (σ.2.2.2.1 1153) nr nw (fun k => σ.1 (6000 + 16 * k + 2)) (fun k => σ.1 (6000 + 16 * k + 5)) (fun k => σ.1 (6000 + 16 * k + 6)) (fun k => σ.1 (8000 + 16 * k + 0)) (fun k => σ.1 (8000 + 16 * k + 1)) (fun k => σ.1 (8000 + 16 * k + 2)) (fun k => σ.2.2.1 (4000 + 16 * k)) = some (w_zI1019, w_zI1020, w_zI1092, w_zI1094, w_zI1095, w_aL1153)) (hQ : Q = MQ below (va_G1 none (fun t => PIC D clsA G dsc ad (sgX1_seekFair σ w_zI1019 w_zI1020 w_zI1092 w_zI1094 w_zI1095 w_aL1153) t.heap) A) args s 0 0 A) (hP : PIC D clsA G dsc ad σ H) (hS : va_S A s.heap H locs) (hl : lv_has ls 9 [(0, .ref (ad 1000))]) : W p l e rmX1_seekFair s m args below meth c0 H locs 0 0 Q (F0 m 0 ls []) := by
  obtain ⟨⟨hx, hb, hml, hown, hts⟩, hr, hlk⟩ := id E
  have hP := hP.to (sgX1_seekFair_self σ).symm
  unfold xo_X1_seekFair at hf
  refine lv_aload_n hx hb dX1_seekFair_0 rfl (lv_at hl 0 rfl) ?_
  refine lv_iconst hx hb dX1_seekFair_1 ic_1 ?_
  refine ux_X1_175_1000 E hX hD hP hS (hA _ (PA_c (hD.1 _ _ dX_1000))) rfl rfl sgX1_seekFair_zI1019 dX1_seekFair_2 (fun H locs hP hS => ?_)
  refine lv_aload_n hx hb dX1_seekFair_5 rfl (lv_at hl 0 rfl) ?_
  refine lv_iconst hx hb dX1_seekFair_6 ic_0 ?_
  refine ux_X1_296_1000 E hX hD hP hS (hA _ (PA_c (hD.1 _ _ dX_1000))) rfl rfl sgX1_seekFair_zI1020 dX1_seekFair_7 (fun H locs hP hS => ?_)
  refine lv_aload_n hx hb dX1_seekFair_10 rfl (lv_at hl 0 rfl) ?_
  refine gx_X1_113_1000 E hX hD hP dX1_seekFair_11 ?_
  refine lv_iconst hx hb dX1_seekFair_14 ic_1 ?_
  refine p_aald7 (v := 1) hx hb hX.1 hP (hD.1 _ _ dX_1117) (by decide) dX1_seekFair_15 ?_
  refine p_nn (by decide) ?_
  refine p_ad (c2 := 1416) (by decide) ?_
  obtain ⟨v1, u2, hf⟩ := bdP hf
  refine cx_X1_299_X9_worst_p1 E hX hD hP hS hA (kxX9_worst_p1 l D G hD sgX1_seekFair_rzI1082 sgX1_seekFair_rzI2008 sgX1_seekFair_rzI2012 sgX1_seekFair_rzI2013 sgX1_seekFair_rzI2027 sgX1_seekFair_rzI2032 sgX1_seekFair_rzL1081 sgX1_seekFair_raI1170 sgX1_seekFair_raI2037 sgX1_seekFair_raI2043 sgX1_seekFair_raL1140 sgX1_seekFair_raL1141 sgX1_seekFair_raL1152 rfl rfl sgX1_seekFair_rpR2 sgX1_seekFair_rpR5 sgX1_seekFair_rpR6 sgX1_seekFair_rpW0 sgX1_seekFair_rpW1 sgX1_seekFair_rpW2 sgX1_seekFair_rgG0 u2) ⟨rfl, rfl⟩ ⟨Nat.le_of_ble_eq_true rfl, Nat.le_of_ble_eq_true rfl⟩ ⟨Nat.zero_le _, Nat.zero_le _⟩ hl.1 (Nat.le_of_ble_eq_true rfl) dX1_seekFair_16 (fun H locs hP hS => ?_)
  refine lv_istore_n (lv' := [(1, .int v1), (0, .ref (ad 1000))]) hx hb dX1_seekFair_19 rfl hl (by decide) rfl (fun ls hl => ?_)
  refine lv_ldcw hx hb hown (hts _ q1318) dX1_seekFair_20 ?_
  refine lv_istore_n (lv' := [(2, .int 1000000), (1, .int v1), (0, .ref (ad 1000))]) hx hb dX1_seekFair_23 rfl hl (by decide) rfl (fun ls hl => ?_)
  refine lv_iconst hx hb dX1_seekFair_24 ic_0 ?_
  refine lv_istore_n (lv' := [(3, .int 0), (2, .int 1000000), (1, .int v1), (0, .ref (ad 1000))]) hx hb dX1_seekFair_25 rfl hl (by decide) rfl (fun ls hl => ?_)
  have LP26 : ∀ (st26 : Int32 × Int32) (ex26 : (Unit) ⊕ (Int32)), loop (xo_X1_seekFair_L26 (σ.1 2027) (σ.2.2.1 1108) (σ.2.2.2.1 1140) v1) st26 = some ex26 → ∀ (H : Heap) (locs : List Loc), PIC D clsA G dsc ad (sgX1_seekFair σ 1 0 (σ.1 1092) (σ.1 1094) (σ.1 1095) (σ.2.2.2.1 1153)) H → va_S A s.heap H locs → ∀ (ls : Array Slot), lv_has ls 9 [(0, .ref (ad 1000)), (1, .int v1), (2, .int (st26.1)), (3, .int (st26.2))] → (ex26 = (.inl (())) → ∀ (H : Heap) (locs : List Loc), PIC D clsA G dsc ad (sgX1_seekFair σ 1 0 (σ.1 1092) (σ.1 1094) (σ.1 1095) (σ.2.2.2.1 1153)) H → va_S A s.heap H locs → ∀ (ls : Array Slot), lv_has ls 9 [] → W p l e rmX1_seekFair s m args below meth c0 H locs 0 0 Q (F0 m 71 ls [])) → (∀ (y17 : Int32), ex26 = (.inr y17) → ∀ (H : Heap) (locs : List Loc), PIC D clsA G dsc ad (sgX1_seekFair σ 1 0 (σ.1 1092) (σ.1 1094) (σ.1 1095) (σ.2.2.2.1 1153)) H → va_S A s.heap H locs → ∀ (ls : Array Slot), lv_has ls 9 [(0, .ref (ad 1000)), (1, .int v1), (2, .int y17)] → W p l e rmX1_seekFair s m args below meth c0 H locs 0 0 Q (F0 m 89 ls [])) → W p l e rmX1_seekFair s m args below meth c0 H locs 0 0 Q (F0 m 26 ls []) := by
    refine loop_P (fun st26 ex26 o26 hf ih26 hx26 => ?_)
    obtain ⟨y3, y4⟩ := st26
    intro H locs (hP : PIC D clsA G dsc ad (sgX1_seekFair σ 1 0 (σ.1 1092) (σ.1 1094) (σ.1 1095) (σ.2.2.2.1 1153)) H) hS ls (hl : lv_has ls 9 [(0, .ref (ad 1000)), (1, .int v1), (2, .int y3), (3, .int y4)]) KE26_0 KE26_1
    dsimp only [xo_X1_seekFair_L26] at hf
    refine lv_iload_n hx hb dX1_seekFair_26 rfl (lv_at hl 3 rfl) ?_
    refine lv_aload_n hx hb dX1_seekFair_27 rfl (lv_at hl 0 rfl) ?_
    refine gx_X1_33_1000 E hX hD hP dX1_seekFair_28 ?_
    obtain ⟨v5, u6, hf⟩ := bdP hf
    refine cx_X1_239_X3_worlds E hX hD hP hS hA (kxX3_worlds l D G hD sgX1_seekFair_rzI2027 u6) ⟨rfl, rfl⟩ ⟨Nat.le_of_ble_eq_true rfl, Nat.le_of_ble_eq_true rfl⟩ ⟨Nat.zero_le _, Nat.zero_le _⟩ hl.1 (Nat.le_of_ble_eq_true rfl) dX1_seekFair_31 (fun H locs hP hS => ?_)
    refine lv_icmp_ge (tgt := 89) hx hb dX1_seekFair_34 (by decide) (fun c7 => ?_) (fun c7 => ?_)
    · have hf := ifT c7 hf
      exact KE26_1 _ (hx26 _ (Option.some.inj hf).symm).symm H locs hP hS ls (lv_sub hl [0, 1, 2] rfl)
    · have hf := ifF c7 hf
      refine lv_aload_n hx hb dX1_seekFair_37 rfl (lv_at hl 0 rfl) ?_
      refine gx_X1_40_1000 E hX hD hP dX1_seekFair_38 ?_
      refine gx_X1_278_1050 E hX hD hP dX1_seekFair_41 ?_
      refine lv_iload_n hx hb dX1_seekFair_44 rfl (lv_at hl 3 rfl) ?_
      obtain ⟨v8, hv8, hf⟩ := bdP hf
      refine p_lald hx hb hX.1 hP (hD.1 _ _ dX_1140) sgX1_seekFair_raL1140 hv8 dX1_seekFair_45 ?_
      refine lv_lconst hx hb dX1_seekFair_46 lc_0 ?_
      refine W.lcmp hx hb dX1_seekFair_47 ?_
      have J83 : ∀ (y9 : Int32), xo_X1_seekFair_J83 y4 y9 = some o26 → ∀ (H : Heap) (locs : List Loc), PIC D clsA G dsc ad (sgX1_seekFair σ 1 0 (σ.1 1092) (σ.1 1094) (σ.1 1095) (σ.2.2.2.1 1153)) H → va_S A s.heap H locs → ∀ (ls : Array Slot), lv_has ls 9 [(0, .ref (ad 1000)), (1, .int v1), (2, .int y9), (3, .int y4)] → W p l e rmX1_seekFair s m args below meth c0 H locs 0 0 Q (F0 m 83 ls []) := by
        intro y9 hf H locs hP hS ls hl
        unfold xo_X1_seekFair_J83 at hf
        obtain ⟨v10, hv10, hf⟩ := bdP hf
        refine lv_iinc (v := v10) (lv' := [(3, .int v10), (0, .ref (ad 1000)), (1, .int v1), (2, .int y9)]) hx hb dX1_seekFair_83 hl (k := 3) rfl (Option.some.inj hv10) (by decide) rfl (fun ls hl => ?_)
        refine lv_goto (tgt := 26) hx hb dX1_seekFair_86 (by decide) ?_
        exact ih26 _ (Option.some.inj hf).symm H locs hP hS ls (lv_sub hl [1, 2, 3, 0] rfl) KE26_0 KE26_1
      refine lv_if_ne (tgt := 54) hx hb dX1_seekFair_48 (by decide) (fun c11 => ?_) (fun c11 => ?_)
      · have hf := ifF (mt (lgc_eq _ _).mpr c11) hf
        refine lv_aload_n hx hb dX1_seekFair_54 rfl (lv_at hl 0 rfl) ?_
        refine gx_X1_47_1000 E hX hD hP dX1_seekFair_55 ?_
        refine lv_iload_n hx hb dX1_seekFair_58 rfl (lv_at hl 3 rfl) ?_
        obtain ⟨v12, hv12, hf⟩ := bdP hf
        refine p_iald hx hb hX.1 hP (hD.1 _ _ dX_1108) sgX1_seekFair_raI1108 hv12 dX1_seekFair_59 ?_
        refine lv_bipush hx hb dX1_seekFair_60 bp_m2 ?_
        refine lv_icmp_eq (tgt := 71) hx hb dX1_seekFair_62 (by decide) (fun c13 => ?_) (fun c13 => ?_)
        · have hf := ifT c13 hf
          exact KE26_0  (hx26 _ (Option.some.inj hf).symm).symm H locs hP hS ls (lv_sub hl [] rfl)
        · have hf := ifF c13 hf
          refine lv_iload_n hx hb dX1_seekFair_65 rfl (lv_at hl 1 rfl) ?_
          refine lv_bipush hx hb dX1_seekFair_66 bp_m2 ?_
          refine lv_icmp_ne (tgt := 72) hx hb dX1_seekFair_68 (by decide) (fun c14 => ?_) (fun c14 => ?_)
          · have hf := ifF c14 hf
            refine lv_iload_n hx hb dX1_seekFair_72 rfl (lv_at hl 2 rfl) ?_
            refine lv_aload_n hx hb dX1_seekFair_73 rfl (lv_at hl 0 rfl) ?_
            refine gx_X1_47_1000 E hX hD hP dX1_seekFair_74 ?_
            refine lv_iload_n hx hb dX1_seekFair_77 rfl (lv_at hl 3 rfl) ?_
            obtain ⟨v15, hv15, hf⟩ := bdP hf
            refine p_iald hx hb hX.1 hP (hD.1 _ _ dX_1108) sgX1_seekFair_raI1108 hv15 dX1_seekFair_78 ?_
            refine va_mmin hx hb (hml.trans hl.1.symm) hown (hts _ q1319) (hts _ q932) (hts _ q152) (hts _ q933) (Nat.le_of_ble_eq_true rfl) (Nat.le_of_ble_eq_true rfl) (Nat.zero_le _) (Nat.zero_le _) dX1_seekFair_79 ?_
            obtain ⟨v16, hv16, hf⟩ := bdP hf
            refine nm_i (Option.some.inj hv16) ?_
            refine lv_istore_n (lv' := [(2, .int v16), (0, .ref (ad 1000)), (1, .int v1), (3, .int y4)]) hx hb dX1_seekFair_82 rfl hl (by decide) rfl (fun ls hl => ?_)
            exact J83 v16 hf H locs hP hS ls (lv_sub hl [1, 2, 0, 3] rfl)
          · have hf := ifT c14 hf
            exact KE26_0  (hx26 _ (Option.some.inj hf).symm).symm H locs hP hS ls (lv_sub hl [] rfl)
      · have hf := ifT ((lgc_eq _ _).mp c11) hf
        refine lv_goto (tgt := 83) hx hb dX1_seekFair_51 (by decide) ?_
        exact J83 y3 hf H locs hP hS ls (lv_sub hl [0, 1, 2, 3] rfl)
  obtain ⟨ex26, hlp26, hf⟩ := bdP hf
  refine LP26 (1000000, 0) ex26 hlp26 H locs hP hS ls (lv_sub hl [3, 2, 1, 0] rfl) ?_ ?_
  · intro  hex26 H locs hP hS ls hl
    subst ex26
    dsimp only [sE_l, sE_r] at hf
    cases hf
    rw [hQ]; exact g_vret hx hb hr hlk hP hS dX1_seekFair_71
  · intro y17 hex26 H locs hP hS ls hl
    subst ex26
    dsimp only [sE_l, sE_r] at hf
    refine lv_aload_n hx hb dX1_seekFair_89 rfl (lv_at hl 0 rfl) ?_
    refine lv_iconst hx hb dX1_seekFair_90 ic_1 ?_
    refine ux_X1_296_1000 E hX hD hP hS (hA _ (PA_c (hD.1 _ _ dX_1000))) rfl rfl sgX1_seekFair_zI1020 dX1_seekFair_91 (fun H locs hP hS => ?_)
    refine lv_iconst hx hb dX1_seekFair_94 ic_0 ?_
    refine lv_istore_n (lv' := [(3, .int 0), (0, .ref (ad 1000)), (1, .int v1), (2, .int y17)]) hx hb dX1_seekFair_95 rfl hl (by decide) rfl (fun ls hl => ?_)
    refine lv_iconst hx hb dX1_seekFair_96 ic_0 ?_
    refine lv_istore (lv' := [(4, .int 0), (3, .int 0), (0, .ref (ad 1000)), (1, .int v1), (2, .int y17)]) hx hb dX1_seekFair_97 hl (by decide) rfl (fun ls hl => ?_)
    refine lv_iconst hx hb dX1_seekFair_99 ic_0 ?_
    refine lv_istore (lv' := [(5, .int 0), (4, .int 0), (3, .int 0), (0, .ref (ad 1000)), (1, .int v1), (2, .int y17)]) hx hb dX1_seekFair_100 hl (by decide) rfl (fun ls hl => ?_)
    have LP102 : ∀ (st102 : Int32 × Int32 × Int32 × Int32 × Int32 × Int32 × (Nat → Int64)) (ex102 : (Int32 × Int32 × Int32 × Int32 × Int32 × (Nat → Int64))), loop (xo_X1_seekFair_L102 (σ.1 2008) (σ.1 2012) (σ.1 2013) (σ.1 2027) (σ.1 2032) (σ.2.1 1091) (σ.2.2.1 1108) (σ.2.2.1 1170) (σ.2.2.1 2037) (σ.2.2.1 2043) (σ.2.2.2.1 1140) (σ.2.2.2.1 1141) nr nw (fun k => σ.1 (6000 + 16 * k + 2)) (fun k => σ.1 (6000 + 16 * k + 5)) (fun k => σ.1 (6000 + 16 * k + 6)) (fun k => σ.1 (8000 + 16 * k + 0)) (fun k => σ.1 (8000 + 16 * k + 1)) (fun k => σ.1 (8000 + 16 * k + 2)) (fun k => σ.2.2.1 (4000 + 16 * k)) v1 y17) st102 = some ex102 → ∀ (H : Heap) (locs : List Loc), PIC D clsA G dsc ad (sgX1_seekFair σ 1 1 (st102.2.2.2.1) (st102.2.2.2.2.1) (st102.2.2.2.2.2.1) (st102.2.2.2.2.2.2)) H → va_S A s.heap H locs → ∀ (ls : Array Slot), lv_has ls 9 [(0, .ref (ad 1000)), (1, .int v1), (2, .int y17), (3, .int (st102.1)), (4, .int (st102.2.1)), (5, .int (st102.2.2.1))] → (∀ (y70 : Int32) (y71 : Int32) (z72 : Int32) (z73 : Int32) (z74 : Int32) (a75 : Nat → Int64), ex102 = (y70, y71, z72, z73, z74, a75) → ∀ (H : Heap) (locs : List Loc), PIC D clsA G dsc ad (sgX1_seekFair σ 1 1 z72 z73 z74 a75) H → va_S A s.heap H locs → ∀ (ls : Array Slot), lv_has ls 9 [(0, .ref (ad 1000)), (3, .int y70), (4, .int y71)] → W p l e rmX1_seekFair s m args below meth c0 H locs 0 0 Q (F0 m 264 ls [])) → W p l e rmX1_seekFair s m args below meth c0 H locs 0 0 Q (F0 m 102 ls []) := by
      refine loop_P (fun st102 ex102 o102 hf ih102 hx102 => ?_)
      obtain ⟨y18, y19, y20, z21, z22, z23, a24⟩ := st102
      intro H locs (hP : PIC D clsA G dsc ad (sgX1_seekFair σ 1 1 z21 z22 z23 a24) H) hS ls (hl : lv_has ls 9 [(0, .ref (ad 1000)), (1, .int v1), (2, .int y17), (3, .int y18), (4, .int y19), (5, .int y20)]) KE102_0
      dsimp only [xo_X1_seekFair_L102] at hf
      refine lv_iload hx hb dX1_seekFair_102 (lv_at hl 5 rfl) ?_
      refine lv_aload_n hx hb dX1_seekFair_104 rfl (lv_at hl 0 rfl) ?_
      refine gx_X1_33_1000 E hX hD hP dX1_seekFair_105 ?_
      obtain ⟨v25, u26, hf⟩ := bdP hf
      refine cx_X1_239_X3_worlds E hX hD hP hS hA (kxX3_worlds l D G hD sgX1_seekFair_rzI2027 u26) ⟨rfl, rfl⟩ ⟨Nat.le_of_ble_eq_true rfl, Nat.le_of_ble_eq_true rfl⟩ ⟨Nat.zero_le _, Nat.zero_le _⟩ hl.1 (Nat.le_of_ble_eq_true rfl) dX1_seekFair_108 (fun H locs hP hS => ?_)
      refine lv_icmp_ge (tgt := 264) hx hb dX1_seekFair_111 (by decide) (fun c27 => ?_) (fun c27 => ?_)
      · have hf := ifT c27 hf
        exact KE102_0 _ _ _ _ _ _ (hx102 _ (Option.some.inj hf).symm).symm H locs hP hS ls (lv_sub hl [0, 3, 4] rfl)
      · have hf := ifF c27 hf
        refine lv_iload_n hx hb dX1_seekFair_114 rfl (lv_at hl 2 rfl) ?_
        refine lv_if_le (tgt := 264) hx hb dX1_seekFair_115 (by decide) (fun c28 => ?_) (fun c28 => ?_)
        · have hf := ifT c28 hf
          exact KE102_0 _ _ _ _ _ _ (hx102 _ (Option.some.inj hf).symm).symm H locs hP hS ls (lv_sub hl [0, 3, 4] rfl)
        · have hf := ifF c28 hf
          refine lv_aload_n hx hb dX1_seekFair_118 rfl (lv_at hl 0 rfl) ?_
          refine gx_X1_40_1000 E hX hD hP dX1_seekFair_119 ?_
          refine gx_X1_278_1050 E hX hD hP dX1_seekFair_122 ?_
          refine lv_iload hx hb dX1_seekFair_125 (lv_at hl 5 rfl) ?_
          obtain ⟨v29, hv29, hf⟩ := bdP hf
          refine p_lald hx hb hX.1 hP (hD.1 _ _ dX_1140) sgX1_seekFair_raL1140 hv29 dX1_seekFair_127 ?_
          refine lv_lconst hx hb dX1_seekFair_128 lc_0 ?_
          refine W.lcmp hx hb dX1_seekFair_129 ?_
          have J258 : ∀ (y30 : Int32) (y31 : Int32) (z32 : Int32) (z33 : Int32) (z34 : Int32) (a35 : Nat → Int64), xo_X1_seekFair_J258 y20 y30 y31 z32 z33 z34 a35 = some o102 → ∀ (H : Heap) (locs : List Loc), PIC D clsA G dsc ad (sgX1_seekFair σ 1 1 z32 z33 z34 a35) H → va_S A s.heap H locs → ∀ (ls : Array Slot), lv_has ls 9 [(0, .ref (ad 1000)), (1, .int v1), (2, .int y17), (3, .int y30), (4, .int y31), (5, .int y20)] → W p l e rmX1_seekFair s m args below meth c0 H locs 0 0 Q (F0 m 258 ls []) := by
            intro y30 y31 z32 z33 z34 a35 hf H locs hP hS ls hl
            unfold xo_X1_seekFair_J258 at hf
            obtain ⟨v36, hv36, hf⟩ := bdP hf
            refine lv_iinc (v := v36) (lv' := [(5, .int v36), (0, .ref (ad 1000)), (1, .int v1), (2, .int y17), (3, .int y30), (4, .int y31)]) hx hb dX1_seekFair_258 hl (k := 5) rfl (Option.some.inj hv36) (by decide) rfl (fun ls hl => ?_)
            refine lv_goto (tgt := 102) hx hb dX1_seekFair_261 (by decide) ?_
            exact ih102 _ (Option.some.inj hf).symm H locs hP hS ls (lv_sub hl [1, 2, 3, 4, 5, 0] rfl) KE102_0
          refine lv_if_eq (tgt := 258) hx hb dX1_seekFair_130 (by decide) (fun c37 => ?_) (fun c37 => ?_)
          · have hf := ifT ((lgc_eq _ _).mp c37) hf
            exact J258 y18 y19 z21 z22 z23 a24 hf H locs hP hS ls (lv_sub hl [0, 1, 2, 3, 4, 5] rfl)
          · have hf := ifF (mt (lgc_eq _ _).mpr c37) hf
            refine lv_aload_n hx hb dX1_seekFair_133 rfl (lv_at hl 0 rfl) ?_
            refine lv_iload hx hb dX1_seekFair_134 (lv_at hl 5 rfl) ?_
            obtain ⟨v38, u39, hf⟩ := bdP hf
            refine cx_X1_308_X1_isAhead E hX hD hP hS hA (kxX1_isAhead l D G hD sgX1_seekFair_raI1108 sgX1_seekFair_raL1140 u39) ⟨rfl, rfl⟩ ⟨Nat.le_of_ble_eq_true rfl, Nat.le_of_ble_eq_true rfl⟩ ⟨Nat.zero_le _, Nat.zero_le _⟩ hl.1 (Nat.le_of_ble_eq_true rfl) dX1_seekFair_136 (fun H locs hP hS => ?_)
            refine lv_if_eq (tgt := 145) hx hb dX1_seekFair_139 (by decide) (fun c40 => ?_) (fun c40 => ?_)
            · have hf := ifT c40 hf
              refine lv_iconst hx hb dX1_seekFair_145 ic_0 ?_
              refine lv_istore (lv' := [(6, .int 0), (0, .ref (ad 1000)), (1, .int v1), (2, .int y17), (3, .int y18), (4, .int y19), (5, .int y20)]) hx hb dX1_seekFair_146 hl (by decide) rfl (fun ls hl => ?_)
              refine lv_iload_n hx hb dX1_seekFair_148 rfl (lv_at hl 2 rfl) ?_
              refine lv_aload_n hx hb dX1_seekFair_149 rfl (lv_at hl 1 rfl) ?_
              refine gx_X1_47_1000 E hX hD hP dX1_seekFair_150 ?_
              refine lv_iload hx hb dX1_seekFair_153 (lv_at hl 6 rfl) ?_
              obtain ⟨v41, hv41, hf⟩ := bdP hf
              refine p_iald hx hb hX.1 hP (hD.1 _ _ dX_1108) sgX1_seekFair_raI1108 hv41 dX1_seekFair_155 ?_
              refine lv_imul hx hb dX1_seekFair_156 ?_
              refine lv_iload_n hx hb dX1_seekFair_157 rfl (lv_at hl 3 rfl) ?_
              refine lv_iadd hx hb dX1_seekFair_158 ?_
              refine lv_iconst hx hb dX1_seekFair_159 ic_1 ?_
              refine lv_isub hx hb dX1_seekFair_160 ?_
              refine lv_iload_n hx hb dX1_seekFair_161 rfl (lv_at hl 3 rfl) ?_
              obtain ⟨v42, hv42, hf⟩ := bdP hf
              refine lv_idiv hx hb dX1_seekFair_162 (dvI_some hv42).1 ?_
              refine nm_i (dvI_some hv42).2 ?_
              refine lv_istore (lv' := [(7, .int v42), (6, .int 0), (0, .ref (ad 1000)), (1, .int v1), (2, .int y17), (3, .int y18), (4, .int y19), (5, .int y20)]) hx hb dX1_seekFair_163 hl (by decide) rfl (fun ls hl => ?_)
              have LP165 : ∀ (st165 : Int32 × Int32 × Int32 × Int32 × Int32 × (Nat → Int64)) (ex165 : (Int32 × Int32 × Int32 × Int32 × (Nat → Int64))), loop (xo_X1_seekFair_L165 (σ.1 2008) (σ.1 2012) (σ.1 2013) (σ.1 2027) (σ.1 2032) (σ.2.1 1091) (σ.2.2.1 1108) (σ.2.2.1 1170) (σ.2.2.1 2037) (σ.2.2.1 2043) (σ.2.2.2.1 1140) (σ.2.2.2.1 1141) nr nw (fun k => σ.1 (6000 + 16 * k + 2)) (fun k => σ.1 (6000 + 16 * k + 5)) (fun k => σ.1 (6000 + 16 * k + 6)) (fun k => σ.1 (8000 + 16 * k + 0)) (fun k => σ.1 (8000 + 16 * k + 1)) (fun k => σ.1 (8000 + 16 * k + 2)) (fun k => σ.2.2.1 (4000 + 16 * k)) y20) st165 = some ex165 → ∀ (H : Heap) (locs : List Loc), PIC D clsA G dsc ad (sgX1_seekFair σ 1 1 (st165.2.2.1) (st165.2.2.2.1) (st165.2.2.2.2.1) (st165.2.2.2.2.2)) H → va_S A s.heap H locs → ∀ (ls : Array Slot), lv_has ls 9 [(0, .ref (ad 1000)), (1, .int v1), (2, .int y17), (3, .int y18), (4, .int y19), (5, .int y20), (6, .int (st165.1)), (7, .int (st165.2.1))] → (∀ (y61 : Int32) (z62 : Int32) (z63 : Int32) (z64 : Int32) (a65 : Nat → Int64), ex165 = (y61, z62, z63, z64, a65) → ∀ (H : Heap) (locs : List Loc), PIC D clsA G dsc ad (sgX1_seekFair σ 1 1 z62 z63 z64 a65) H → va_S A s.heap H locs → ∀ (ls : Array Slot), lv_has ls 9 [(0, .ref (ad 1000)), (1, .int v1), (2, .int y17), (3, .int y18), (4, .int y19), (5, .int y20), (7, .int y61)] → W p l e rmX1_seekFair s m args below meth c0 H locs 0 0 Q (F0 m 216 ls [])) → W p l e rmX1_seekFair s m args below meth c0 H locs 0 0 Q (F0 m 165 ls []) := by
                refine loop_P (fun st165 ex165 o165 hf ih165 hx165 => ?_)
                obtain ⟨y43, y44, z45, z46, z47, a48⟩ := st165
                intro H locs (hP : PIC D clsA G dsc ad (sgX1_seekFair σ 1 1 z45 z46 z47 a48) H) hS ls (hl : lv_has ls 9 [(0, .ref (ad 1000)), (1, .int v1), (2, .int y17), (3, .int y18), (4, .int y19), (5, .int y20), (6, .int y43), (7, .int y44)]) KE165_0
                dsimp only [xo_X1_seekFair_L165] at hf
                refine lv_iload hx hb dX1_seekFair_165 (lv_at hl 7 rfl) ?_
                refine lv_iload hx hb dX1_seekFair_167 (lv_at hl 6 rfl) ?_
                refine lv_isub hx hb dX1_seekFair_169 ?_
                refine lv_iconst hx hb dX1_seekFair_170 ic_1 ?_
                refine lv_icmp_le (tgt := 216) hx hb dX1_seekFair_171 (by decide) (fun c49 => ?_) (fun c49 => ?_)
                · have hf := ifT c49 hf
                  exact KE165_0 _ _ _ _ _ (hx165 _ (Option.some.inj hf).symm).symm H locs hP hS ls (lv_sub hl [0, 1, 2, 3, 4, 5, 7] rfl)
                · have hf := ifF c49 hf
                  refine lv_iload hx hb dX1_seekFair_174 (lv_at hl 6 rfl) ?_
                  refine lv_iload hx hb dX1_seekFair_176 (lv_at hl 7 rfl) ?_
                  refine lv_iadd hx hb dX1_seekFair_178 ?_
                  refine lv_iconst hx hb dX1_seekFair_179 ic_1 ?_
                  refine lv_ishr hx hb dX1_seekFair_180 ?_
                  obtain ⟨v50, hv50, hf⟩ := bdP hf
                  refine nm_i (Option.some.inj hv50) ?_
                  refine lv_istore (lv' := [(8, .int v50), (0, .ref (ad 1000)), (1, .int v1), (2, .int y17), (3, .int y18), (4, .int y19), (5, .int y20), (6, .int y43), (7, .int y44)]) hx hb dX1_seekFair_181 hl (by decide) rfl (fun ls hl => ?_)
                  refine lv_aload_n hx hb dX1_seekFair_183 rfl (lv_at hl 1 rfl) ?_
                  refine gx_X1_70_1000 E hX hD hP dX1_seekFair_184 ?_
                  refine lv_iload hx hb dX1_seekFair_187 (lv_at hl 0 rfl) ?_
                  refine lv_aload_n hx hb dX1_seekFair_189 rfl (lv_at hl 1 rfl) ?_
                  refine gx_X1_47_1000 E hX hD hP dX1_seekFair_190 ?_
                  refine lv_iload hx hb dX1_seekFair_193 (lv_at hl 6 rfl) ?_
                  obtain ⟨v51, hv51, hf⟩ := bdP hf
                  refine p_iald hx hb hX.1 hP (hD.1 _ _ dX_1108) sgX1_seekFair_raI1108 hv51 dX1_seekFair_195 ?_
                  obtain ⟨⟨v52, z53, z54, z55, a56⟩, u57, hf⟩ := bdP hf
                  dsimp only at hf
                  refine cx_X1_311_X8_holds_TF E hX hD hP hS hA (kxX8_holds_TF l D G hD sgX1_seekFair_rzI1092 sgX1_seekFair_rzI1094 sgX1_seekFair_rzI1095 sgX1_seekFair_rzI2008 sgX1_seekFair_rzI2012 sgX1_seekFair_rzI2013 sgX1_seekFair_rzI2027 sgX1_seekFair_rzI2032 sgX1_seekFair_rzL1091 sgX1_seekFair_raI1108 sgX1_seekFair_raI1170 sgX1_seekFair_raI2037 sgX1_seekFair_raI2043 sgX1_seekFair_raL1140 sgX1_seekFair_raL1141 sgX1_seekFair_raL1153 rfl rfl sgX1_seekFair_rpR2 sgX1_seekFair_rpR5 sgX1_seekFair_rpR6 sgX1_seekFair_rpW0 sgX1_seekFair_rpW1 sgX1_seekFair_rpW2 sgX1_seekFair_rgG0 u57) ⟨rfl, rfl⟩ ⟨Nat.le_of_ble_eq_true rfl, Nat.le_of_ble_eq_true rfl⟩ ⟨Nat.zero_le _, Nat.zero_le _⟩ hl.1 (Nat.le_of_ble_eq_true rfl) dX1_seekFair_196 (fun H locs hP hS => ?_)
                  rw [sgX1_seekFair_zI1092, sgX1_seekFair_zI1094, sgX1_seekFair_zI1095, sgX1_seekFair_aL1153] at hP
                  have J213 : ∀ (y58 : Int32) (y59 : Int32), xo_X1_seekFair_J213 z53 z54 z55 a56 y58 y59 = some o165 → ∀ (H : Heap) (locs : List Loc), PIC D clsA G dsc ad (sgX1_seekFair σ 1 1 z53 z54 z55 a56) H → va_S A s.heap H locs → ∀ (ls : Array Slot), lv_has ls 9 [(0, .ref (ad 1000)), (1, .int v1), (2, .int y17), (3, .int y18), (4, .int y19), (5, .int y20), (6, .int y58), (7, .int y59)] → W p l e rmX1_seekFair s m args below meth c0 H locs 0 0 Q (F0 m 213 ls []) := by
                    intro y58 y59 hf H locs hP hS ls hl
                    unfold xo_X1_seekFair_J213 at hf
                    refine lv_goto (tgt := 165) hx hb dX1_seekFair_213 (by decide) ?_
                    exact ih165 _ (Option.some.inj hf).symm H locs hP hS ls (lv_sub hl [0, 1, 2, 3, 4, 5, 6, 7] rfl) KE165_0
                  refine lv_if_eq (tgt := 209) hx hb dX1_seekFair_199 (by decide) (fun c60 => ?_) (fun c60 => ?_)
                  · have hf := ifT c60 hf
                    refine lv_iload hx hb dX1_seekFair_209 (lv_at hl 0 rfl) ?_
                    refine lv_istore (lv' := [(6, .int v50), (8, .int v50), (0, .ref (ad 1000)), (1, .int v1), (2, .int y17), (3, .int y18), (4, .int y19), (5, .int y20), (7, .int y44)]) hx hb dX1_seekFair_211 hl (by decide) rfl (fun ls hl => ?_)
                    exact J213 v50 y44 hf H locs hP hS ls (lv_sub hl [2, 3, 4, 5, 6, 7, 0, 8] rfl)
                  · have hf := ifF c60 hf
                    refine lv_iload hx hb dX1_seekFair_202 (lv_at hl 0 rfl) ?_
                    refine lv_istore (lv' := [(7, .int v50), (8, .int v50), (0, .ref (ad 1000)), (1, .int v1), (2, .int y17), (3, .int y18), (4, .int y19), (5, .int y20), (6, .int y43)]) hx hb dX1_seekFair_204 hl (by decide) rfl (fun ls hl => ?_)
                    refine lv_goto (tgt := 213) hx hb dX1_seekFair_206 (by decide) ?_
                    exact J213 y43 v50 hf H locs hP hS ls (lv_sub hl [2, 3, 4, 5, 6, 7, 8, 0] rfl)
              obtain ⟨ex165, hlp165, hf⟩ := bdP hf
              refine LP165 (0, v42, z21, z22, z23, a24) ex165 hlp165 H locs hP hS ls (lv_sub hl [2, 3, 4, 5, 6, 7, 1, 0] rfl) ?_
              intro y61 z62 z63 z64 a65 hex165 H locs hP hS ls hl
              subst ex165
              dsimp only at hf
              refine lv_iload hx hb dX1_seekFair_216 (lv_at hl 4 rfl) ?_
              have J246 : xo_X1_seekFair_J246 (σ.2.2.1 1108) y20 y61 z62 z63 z64 a65 = some o102 → ∀ (H : Heap) (locs : List Loc), PIC D clsA G dsc ad (sgX1_seekFair σ 1 1 z62 z63 z64 a65) H → va_S A s.heap H locs → ∀ (ls : Array Slot), lv_has ls 9 [(0, .ref (ad 1000)), (1, .int v1), (2, .int y17), (5, .int y20), (7, .int y61)] → W p l e rmX1_seekFair s m args below meth c0 H locs 0 0 Q (F0 m 246 ls []) := by
                intro  hf H locs hP hS ls hl
                unfold xo_X1_seekFair_J246 at hf
                refine lv_iload hx hb dX1_seekFair_246 (lv_at hl 4 rfl) ?_
                refine lv_istore_n (lv' := [(3, .int y61), (0, .ref (ad 1000)), (1, .int v1), (2, .int y17), (5, .int y20), (7, .int y61)]) hx hb dX1_seekFair_248 rfl hl (by decide) rfl (fun ls hl => ?_)
                refine lv_aload_n hx hb dX1_seekFair_249 rfl (lv_at hl 1 rfl) ?_
                refine gx_X1_47_1000 E hX hD hP dX1_seekFair_250 ?_
                refine lv_iload hx hb dX1_seekFair_253 (lv_at hl 4 rfl) ?_
                obtain ⟨v66, hv66, hf⟩ := bdP hf
                refine p_iald hx hb hX.1 hP (hD.1 _ _ dX_1108) sgX1_seekFair_raI1108 hv66 dX1_seekFair_255 ?_
                refine lv_istore (lv' := [(4, .int v66), (3, .int y61), (0, .ref (ad 1000)), (1, .int v1), (2, .int y17), (5, .int y20), (7, .int y61)]) hx hb dX1_seekFair_256 hl (by decide) rfl (fun ls hl => ?_)
                exact J258 y61 v66 z62 z63 z64 a65 hf H locs hP hS ls (lv_sub hl [2, 3, 4, 1, 0, 5] rfl)
              refine lv_if_eq (tgt := 246) hx hb dX1_seekFair_218 (by decide) (fun c67 => ?_) (fun c67 => ?_)
              · have hf := ifT c67 hf
                exact J246  hf H locs hP hS ls (lv_sub hl [0, 1, 2, 5, 6] rfl)
              · have hf := ifF c67 hf
                refine lv_iload hx hb dX1_seekFair_221 (lv_at hl 6 rfl) ?_
                refine lv_i2l hx hb dX1_seekFair_223 rfl ?_
                refine lv_iload hx hb dX1_seekFair_224 (lv_at hl 4 rfl) ?_
                refine lv_i2l hx hb dX1_seekFair_226 rfl ?_
                refine lv_lmul hx hb dX1_seekFair_227 ?_
                refine lv_iload_n hx hb dX1_seekFair_228 rfl (lv_at hl 3 rfl) ?_
                refine lv_i2l hx hb dX1_seekFair_229 rfl ?_
                refine lv_aload_n hx hb dX1_seekFair_230 rfl (lv_at hl 0 rfl) ?_
                refine gx_X1_47_1000 E hX hD hP dX1_seekFair_231 ?_
                refine lv_iload hx hb dX1_seekFair_234 (lv_at hl 5 rfl) ?_
                obtain ⟨v68, hv68, hf⟩ := bdP hf
                refine p_iald hx hb hX.1 hP (hD.1 _ _ dX_1108) sgX1_seekFair_raI1108 hv68 dX1_seekFair_236 ?_
                refine lv_i2l hx hb dX1_seekFair_237 rfl ?_
                refine lv_lmul hx hb dX1_seekFair_238 ?_
                refine W.lcmp hx hb dX1_seekFair_239 ?_
                refine lv_if_lt (tgt := 246) hx hb dX1_seekFair_240 (by decide) (fun c69 => ?_) (fun c69 => ?_)
                · have hf := ifT ((lgc_lt _ _).mp c69) hf
                  exact J246  hf H locs hP hS ls (lv_sub hl [0, 1, 2, 5, 6] rfl)
                · have hf := ifF (mt (lgc_lt _ _).mpr c69) hf
                  refine lv_goto (tgt := 258) hx hb dX1_seekFair_243 (by decide) ?_
                  exact J258 y18 y19 z62 z63 z64 a65 hf H locs hP hS ls (lv_sub hl [0, 1, 2, 3, 4, 5] rfl)
            · have hf := ifF c40 hf
              refine lv_goto (tgt := 258) hx hb dX1_seekFair_142 (by decide) ?_
              exact J258 y18 y19 z21 z22 z23 a24 hf H locs hP hS ls (lv_sub hl [0, 1, 2, 3, 4, 5] rfl)
    obtain ⟨ex102, hlp102, hf⟩ := bdP hf
    refine LP102 (0, 0, 0, (σ.1 1092), (σ.1 1094), (σ.1 1095), (σ.2.2.2.1 1153)) ex102 hlp102 H locs hP hS ls (lv_sub hl [3, 4, 5, 2, 1, 0] rfl) ?_
    intro y70 y71 z72 z73 z74 a75 hex102 H locs hP hS ls hl
    subst ex102
    dsimp only at hf
    refine lv_iload hx hb dX1_seekFair_264 (lv_at hl 2 rfl) ?_
    have J272 : ∀ (y76 : Int32), xo_X1_seekFair_J272 (σ.1 2008) (σ.1 2012) (σ.1 2013) (σ.1 2027) (σ.1 2032) (σ.2.1 1091) (σ.2.2.1 1108) (σ.2.2.1 1170) (σ.2.2.1 2037) (σ.2.2.1 2043) (σ.2.2.2.1 1140) (σ.2.2.2.1 1141) nr nw (fun k => σ.1 (6000 + 16 * k + 2)) (fun k => σ.1 (6000 + 16 * k + 5)) (fun k => σ.1 (6000 + 16 * k + 6)) (fun k => σ.1 (8000 + 16 * k + 0)) (fun k => σ.1 (8000 + 16 * k + 1)) (fun k => σ.1 (8000 + 16 * k + 2)) (fun k => σ.2.2.1 (4000 + 16 * k)) y70 z72 z73 z74 a75 y76 = some (w_zI1019, w_zI1020, w_zI1092, w_zI1094, w_zI1095, w_aL1153) → ∀ (H : Heap) (locs : List Loc), PIC D clsA G dsc ad (sgX1_seekFair σ 1 1 z72 z73 z74 a75) H → va_S A s.heap H locs → ∀ (ls : Array Slot), lv_has ls 9 [(0, .ref (ad 1000)), (3, .int y70), (4, .int y76)] → W p l e rmX1_seekFair s m args below meth c0 H locs 0 0 Q (F0 m 272 ls []) := by
      intro y76 hf H locs hP hS ls hl
      unfold xo_X1_seekFair_J272 at hf
      refine lv_aload_n hx hb dX1_seekFair_272 rfl (lv_at hl 0 rfl) ?_
      refine gx_X1_70_1000 E hX hD hP dX1_seekFair_273 ?_
      refine lv_iload_n hx hb dX1_seekFair_276 rfl (lv_at hl 1 rfl) ?_
      refine lv_iload hx hb dX1_seekFair_277 (lv_at hl 2 rfl) ?_
      obtain ⟨⟨v77, z78, z79, z80, a81⟩, u82, hf⟩ := bdP hf
      dsimp only at hf
      refine cx_X1_311_X8_holds_TF E hX hD hP hS hA (kxX8_holds_TF l D G hD sgX1_seekFair_rzI1092 sgX1_seekFair_rzI1094 sgX1_seekFair_rzI1095 sgX1_seekFair_rzI2008 sgX1_seekFair_rzI2012 sgX1_seekFair_rzI2013 sgX1_seekFair_rzI2027 sgX1_seekFair_rzI2032 sgX1_seekFair_rzL1091 sgX1_seekFair_raI1108 sgX1_seekFair_raI1170 sgX1_seekFair_raI2037 sgX1_seekFair_raI2043 sgX1_seekFair_raL1140 sgX1_seekFair_raL1141 sgX1_seekFair_raL1153 rfl rfl sgX1_seekFair_rpR2 sgX1_seekFair_rpR5 sgX1_seekFair_rpR6 sgX1_seekFair_rpW0 sgX1_seekFair_rpW1 sgX1_seekFair_rpW2 sgX1_seekFair_rgG0 u82) ⟨rfl, rfl⟩ ⟨Nat.le_of_ble_eq_true rfl, Nat.le_of_ble_eq_true rfl⟩ ⟨Nat.zero_le _, Nat.zero_le _⟩ hl.1 (Nat.le_of_ble_eq_true rfl) dX1_seekFair_279 (fun H locs hP hS => ?_)
      rw [sgX1_seekFair_zI1092, sgX1_seekFair_zI1094, sgX1_seekFair_zI1095, sgX1_seekFair_aL1153] at hP
      refine lv_istore (lv' := [(5, .int v77), (0, .ref (ad 1000)), (3, .int y70), (4, .int y76)]) hx hb dX1_seekFair_282 hl (by decide) rfl (fun ls hl => ?_)
      cases hf
      rw [hQ]; exact g_vret hx hb hr hlk hP hS dX1_seekFair_284
    refine lv_if_ne (tgt := 272) hx hb dX1_seekFair_266 (by decide) (fun c83 => ?_) (fun c83 => ?_)
    · have hf := ifF c83 hf
      exact J272 y71 hf H locs hP hS ls (lv_sub hl [0, 1, 2] rfl)
    · have hf := ifT c83 hf
      refine lv_iconst hx hb dX1_seekFair_269 ic_1 ?_
      refine lv_istore (lv' := [(4, .int 1), (0, .ref (ad 1000)), (3, .int y70)]) hx hb dX1_seekFair_270 hl (by decide) rfl (fun ls hl => ?_)
      exact J272 1 hf H locs hP hS ls (lv_sub hl [1, 2, 0] rfl)
theorem kxX1_seekFair (l : Launch) (D : va_G) (G : Nat → ClassId) {dsc : Nat → Option Dsc} {ad : Nat → Nat} {σ : Sto} {nr nw nu : Nat} (hD : XD dsc nr nw nu) {w_zI1019 : Int32} {w_zI1020 : Int32} {w_zI1092 : Int32} {w_zI1094 : Int32} {w_zI1095 : Int32} {w_aL1153 : Nat → Int64} {z_X_isFair : Int32} (e_zI1019 : σ.1 1019 = z_X_isFair) {z_X_hasFair : Int32} (e_zI1020 : σ.1 1020 = z_X_hasFair) {z_TS_by : Int32} (e_zI1082 : σ.1 1082 = z_TS_by) {z_TF_by : Int32} (e_zI1092 : σ.1 1092 = z_TF_by) {z_TF_times : Int32} (e_zI1094 : σ.1 1094 = z_TF_times) {z_TF_of : Int32} (e_zI1095 : σ.1 1095 = z_TF_of) {z_L_places : Int32} (e_zI2008 : σ.1 2008 = z_L_places) {z_L_from : Int32} (e_zI2012 : σ.1 2012 = z_L_from) {z_L_to : Int32} (e_zI2013 : σ.1 2013 = z_L_to) {z_Ld_size : Int32} (e_zI2027 : σ.1 2027 = z_Ld_size) {z_Lw_size : Int32} (e_zI2032 : σ.1 2032 = z_Lw_size) {z_TS_none : Int64} (e_zL1081 : σ.2.1 1081 = z_TS_none) {z_TF_none : Int64} (e_zL1091 : σ.2.1 1091 = z_TF_none) {a_X_knowing : Nat → Int32} (e_aI1108 : σ.2.2.1 1108 = a_X_knowing) {a_UNIT : Nat → Int32} (e_aI1170 : σ.2.2.1 1170 = a_UNIT) {a_Lw_data : Nat → Int32} (e_aI2037 : σ.2.2.1 2037 = a_Lw_data) {a_L_seen : Nat → Int32} (e_aI2043 : σ.2.2.1 2043 = a_L_seen) {a_W_world : Nat → Int64} (e_aL1140 : σ.2.2.2.1 1140 = a_W_world) {a_W_likely : Nat → Int64} (e_aL1141 : σ.2.2.2.1 1141 = a_W_likely) {a_TS_value : Nat → Int64} (e_aL1152 : σ.2.2.2.1 1152 = a_TS_value) {a_TF_value : Nat → Int64} (e_aL1153 : σ.2.2.2.1 1153 = a_TF_value) {n_r : Nat} (e_nN0 : nr = n_r) {n_w : Nat} (e_nN1 : nw = n_w) {p_road_hours : Nat → Int32} (e_pR2 : (fun k => σ.1 (6000 + 16 * k + 2)) = p_road_hours) {p_road_wait : Nat → Int32} (e_pR5 : (fun k => σ.1 (6000 + 16 * k + 5)) = p_road_wait) {p_road_number : Nat → Int32} (e_pR6 : (fun k => σ.1 (6000 + 16 * k + 6)) = p_road_number) {p_word_place : Nat → Int32} (e_pW0 : (fun k => σ.1 (8000 + 16 * k + 0)) = p_word_place) {p_word_road : Nat → Int32} (e_pW1 : (fun k => σ.1 (8000 + 16 * k + 1)) = p_word_road) {p_word_hours : Nat → Int32} (e_pW2 : (fun k => σ.1 (8000 + 16 * k + 2)) = p_word_hours) {g_grid : Nat → Nat → Int32} (e_gG0 : (fun k => σ.2.2.1 (4000 + 16 * k)) = g_grid) (hf : xo_X1_seekFair z_X_isFair z_X_hasFair z_TS_by z_TF_by z_TF_times z_TF_of z_L_places z_L_from z_L_to z_Ld_size z_Lw_size z_TS_none z_TF_none a_X_knowing a_UNIT a_Lw_data a_L_seen a_W_world a_W_likely a_TS_value a_TF_value n_r n_w p_road_hours p_road_wait p_road_number p_word_place p_word_road p_word_hours g_grid = some (w_zI1019, w_zI1020, w_zI1092, w_zI1094, w_zI1095, w_aL1153)) : CtG l D G dsc ad yX1_seekFair (ws_ yX1_seekFair cX1_seekFair 9 (Option.none : Option Jvm.ClassFile.FieldType)) rmX1_seekFair [.ref (ad 1000)] σ none (aL (zI (zI (zI (zI (zI σ 1019 w_zI1019) 1020 w_zI1020) 1092 w_zI1092) 1094 w_zI1094) 1095 w_zI1095) 1153 w_aL1153) := by
  subst e_zI1019
  subst e_zI1020
  subst e_zI1082
  subst e_zI1092
  subst e_zI1094
  subst e_zI1095
  subst e_zI2008
  subst e_zI2012
  subst e_zI2013
  subst e_zI2027
  subst e_zI2032
  subst e_zL1081
  subst e_zL1091
  subst e_aI1108
  subst e_aI1170
  subst e_aI2037
  subst e_aI2043
  subst e_aL1140
  subst e_aL1141
  subst e_aL1152
  subst e_aL1153
  subst e_nN0
  subst e_nN1
  subst e_pR2
  subst e_pR5
  subst e_pR6
  subst e_pW0
  subst e_pW1
  subst e_pW2
  subst e_gG0
  exact p_ctG (by decide +kernel) (Nat.le_of_ble_eq_true rfl) (fun p e s m below meth c0 ls A E hP hX hA hS hl => wkX1_seekFair E hX hD hA hf rfl hP hS hl)
theorem gx_X1_296_1000 {v : Int32} (E : EN p s m args meth c0 RX1 cc nL ret) (hX : KX D G ad A s s.heap) (hD : XD dsc nr nw nu) (hP : PIC D clsA G dsc ad σ H) (hv : σ.1 1020 = v) (hdg : decode cc pc = .ok (.getfield 296, 3)) (kk : W p l e R s m args below meth c0 H locs cells slots Q (F0 m (pc + 3) ls (.int v :: rest))) : W p l e R s m args below meth c0 H locs cells slots Q (F0 m pc ls (.ref (ad 1000) :: rest)) :=
  p_get E.1.1 E.1.2.1 E.1.2.2.2.2 in_X1 E.1.2.2.2.1 hX.1 hP (hD.1 _ _ dX_1000) rfl 20 (by decide) (E.1.2.2.2.2 _ q532) (fun _ h => h) rfl (congrArg Value.int hv) hdg kk
theorem gx_X1_175_1000 {v : Int32} (E : EN p s m args meth c0 RX1 cc nL ret) (hX : KX D G ad A s s.heap) (hD : XD dsc nr nw nu) (hP : PIC D clsA G dsc ad σ H) (hv : σ.1 1019 = v) (hdg : decode cc pc = .ok (.getfield 175, 3)) (kk : W p l e R s m args below meth c0 H locs cells slots Q (F0 m (pc + 3) ls (.int v :: rest))) : W p l e R s m args below meth c0 H locs cells slots Q (F0 m pc ls (.ref (ad 1000) :: rest)) :=
  p_get E.1.1 E.1.2.1 E.1.2.2.2.2 in_X1 E.1.2.2.2.1 hX.1 hP (hD.1 _ _ dX_1000) rfl 19 (by decide) (E.1.2.2.2.2 _ q531) (fun _ h => h) rfl (congrArg Value.int hv) hdg kk
theorem cx_X1_293_X1_seekFair {rm : Room} {σ1 : Sto} (E : EN p s m args meth c0 RX1 cc nL ret) (hX : KX D G ad A s s.heap) (hD : XD dsc nr nw nu) (hP : PIC D clsA G dsc ad σ H) (hS : va_S A s.heap H locs) (hA : ∀ q, PA dsc ad s.heap.size q → A q) (hM : CtG l D G dsc ad yX1_seekFair (ws_ yX1_seekFair cX1_seekFair 9 (Option.none : Option Jvm.ClassFile.FieldType)) rm [.ref (ad 1000)] σ none σ1) (hz : rm.cells = 0 ∧ rm.slots = 0) (hR : rm.frames + 1 ≤ R.frames ∧ 8 + (9 + 11) + rm.locals ≤ R.locals) (hcs : cells ≤ R.cells ∧ slots ≤ R.slots) (hsz : ls.size = nL) (hW : (rest.map fun v => v.category).sum ≤ 8) (hdg : decode cc pc = .ok (.invokevirtual 293, 3)) (kk : ∀ (H1 : Heap) (locs1 : List Loc), PIC D clsA G dsc ad σ1 H1 → va_S A s.heap H1 locs1 → W p l e R s m args below meth c0 H1 locs1 cells slots Q (F0 m (pc + 3) ls (rest))) : W p l e R s m args below meth c0 H locs cells slots Q (F0 m pc ls (.ref (ad 1000) :: rest)) :=
  p_gV (As := []) (rest := rest) E.1 hX hP hS hA hM (cwV 0 E.1.2.2.2.2 (lw_V q1261 q1263 qs28 q124 q1264) rfl hz.1 hz.2 (by decide +kernel) hR) (hD.1 _ _ dX_1000) rfl rfl rfl hsz rfl hW hdg hcs kk
/-! X1_plan (I)LShutPasses$Plan; -/
def sgX1_plan (σ : Sto) (w0 : Int32) (w1 : Int32) (w2 : Int32) (w3 : Int32) (w4 : Int32) (w5 : Int32) (w6 : Int32) (w7 : Int32) (w8 : Int64) (w9 : Nat → Int32) (w10 : Nat → Int32) (w11 : Nat → Int64) (w12 : Nat → Int64) (w13 : Nat → Int64) (w14 : Nat → Int64) (w15 : Nat → Int64) : Sto := aL (aL (aL (aL (aL (aI (aI (zL (zI (zI (zI (zI (zI (zI (zI (zI σ 1018 w0) 1019 w1) 1020 w2) 1062 w3) 1082 w4) 1092 w5) 1094 w6) 1095 w7) 1052 w8) 1108 w9) 1162 w10) 1140 w11) 1141 w12) 1150 w13) 1152 w14) 1153 w15
theorem sgX1_plan_self (σ : Sto) : sgX1_plan σ (σ.1 1018) (σ.1 1019) (σ.1 1020) (σ.1 1062) (σ.1 1082) (σ.1 1092) (σ.1 1094) (σ.1 1095) (σ.2.1 1052) (σ.2.2.1 1108) (σ.2.2.1 1162) (σ.2.2.2.1 1140) (σ.2.2.2.1 1141) (σ.2.2.2.1 1150) (σ.2.2.2.1 1152) (σ.2.2.2.1 1153) = σ := by
  unfold sgX1_plan
  simp only [zI_self, zL_self, aI_self, aL_self]
theorem sgX1_plan_zI1018 {σ : Sto} {w0 : Int32} {w1 : Int32} {w2 : Int32} {w3 : Int32} {w4 : Int32} {w5 : Int32} {w6 : Int32} {w7 : Int32} {w8 : Int64} {w9 : Nat → Int32} {w10 : Nat → Int32} {w11 : Nat → Int64} {w12 : Nat → Int64} {w13 : Nat → Int64} {w14 : Nat → Int64} {w15 : Nat → Int64} {g : Int32} : zI (sgX1_plan σ w0 w1 w2 w3 w4 w5 w6 w7 w8 w9 w10 w11 w12 w13 w14 w15) 1018 g = sgX1_plan σ g w1 w2 w3 w4 w5 w6 w7 w8 w9 w10 w11 w12 w13 w14 w15 := (cm_zI_aL _ _ _ _ _).trans (congrArg (fun z => aL z 1153 w15) ((cm_zI_aL _ _ _ _ _).trans (congrArg (fun z => aL z 1152 w14) ((cm_zI_aL _ _ _ _ _).trans (congrArg (fun z => aL z 1150 w13) ((cm_zI_aL _ _ _ _ _).trans (congrArg (fun z => aL z 1141 w12) ((cm_zI_aL _ _ _ _ _).trans (congrArg (fun z => aL z 1140 w11) ((cm_zI_aI _ _ _ _ _).trans (congrArg (fun z => aI z 1162 w10) ((cm_zI_aI _ _ _ _ _).trans (congrArg (fun z => aI z 1108 w9) ((cm_zI_zL _ _ _ _ _).trans (congrArg (fun z => zL z 1052 w8) ((zI_comm _ (by decide) _ _).trans (congrArg (fun z => zI z 1095 w7) ((zI_comm _ (by decide) _ _).trans (congrArg (fun z => zI z 1094 w6) ((zI_comm _ (by decide) _ _).trans (congrArg (fun z => zI z 1092 w5) ((zI_comm _ (by decide) _ _).trans (congrArg (fun z => zI z 1082 w4) ((zI_comm _ (by decide) _ _).trans (congrArg (fun z => zI z 1062 w3) ((zI_comm _ (by decide) _ _).trans (congrArg (fun z => zI z 1020 w2) ((zI_comm _ (by decide) _ _).trans (congrArg (fun z => zI z 1019 w1) (zI_zI _ 1018 _ _))))))))))))))))))))))))))))))
theorem sgX1_plan_zI1019 {σ : Sto} {w0 : Int32} {w1 : Int32} {w2 : Int32} {w3 : Int32} {w4 : Int32} {w5 : Int32} {w6 : Int32} {w7 : Int32} {w8 : Int64} {w9 : Nat → Int32} {w10 : Nat → Int32} {w11 : Nat → Int64} {w12 : Nat → Int64} {w13 : Nat → Int64} {w14 : Nat → Int64} {w15 : Nat → Int64} {g : Int32} : zI (sgX1_plan σ w0 w1 w2 w3 w4 w5 w6 w7 w8 w9 w10 w11 w12 w13 w14 w15) 1019 g = sgX1_plan σ w0 g w2 w3 w4 w5 w6 w7 w8 w9 w10 w11 w12 w13 w14 w15 := (cm_zI_aL _ _ _ _ _).trans (congrArg (fun z => aL z 1153 w15) ((cm_zI_aL _ _ _ _ _).trans (congrArg (fun z => aL z 1152 w14) ((cm_zI_aL _ _ _ _ _).trans (congrArg (fun z => aL z 1150 w13) ((cm_zI_aL _ _ _ _ _).trans (congrArg (fun z => aL z 1141 w12) ((cm_zI_aL _ _ _ _ _).trans (congrArg (fun z => aL z 1140 w11) ((cm_zI_aI _ _ _ _ _).trans (congrArg (fun z => aI z 1162 w10) ((cm_zI_aI _ _ _ _ _).trans (congrArg (fun z => aI z 1108 w9) ((cm_zI_zL _ _ _ _ _).trans (congrArg (fun z => zL z 1052 w8) ((zI_comm _ (by decide) _ _).trans (congrArg (fun z => zI z 1095 w7) ((zI_comm _ (by decide) _ _).trans (congrArg (fun z => zI z 1094 w6) ((zI_comm _ (by decide) _ _).trans (congrArg (fun z => zI z 1092 w5) ((zI_comm _ (by decide) _ _).trans (congrArg (fun z => zI z 1082 w4) ((zI_comm _ (by decide) _ _).trans (congrArg (fun z => zI z 1062 w3) ((zI_comm _ (by decide) _ _).trans (congrArg (fun z => zI z 1020 w2) (zI_zI _ 1019 _ _))))))))))))))))))))))))))))
theorem sgX1_plan_zI1020 {σ : Sto} {w0 : Int32} {w1 : Int32} {w2 : Int32} {w3 : Int32} {w4 : Int32} {w5 : Int32} {w6 : Int32} {w7 : Int32} {w8 : Int64} {w9 : Nat → Int32} {w10 : Nat → Int32} {w11 : Nat → Int64} {w12 : Nat → Int64} {w13 : Nat → Int64} {w14 : Nat → Int64} {w15 : Nat → Int64} {g : Int32} : zI (sgX1_plan σ w0 w1 w2 w3 w4 w5 w6 w7 w8 w9 w10 w11 w12 w13 w14 w15) 1020 g = sgX1_plan σ w0 w1 g w3 w4 w5 w6 w7 w8 w9 w10 w11 w12 w13 w14 w15 := (cm_zI_aL _ _ _ _ _).trans (congrArg (fun z => aL z 1153 w15) ((cm_zI_aL _ _ _ _ _).trans (congrArg (fun z => aL z 1152 w14) ((cm_zI_aL _ _ _ _ _).trans (congrArg (fun z => aL z 1150 w13) ((cm_zI_aL _ _ _ _ _).trans (congrArg (fun z => aL z 1141 w12) ((cm_zI_aL _ _ _ _ _).trans (congrArg (fun z => aL z 1140 w11) ((cm_zI_aI _ _ _ _ _).trans (congrArg (fun z => aI z 1162 w10) ((cm_zI_aI _ _ _ _ _).trans (congrArg (fun z => aI z 1108 w9) ((cm_zI_zL _ _ _ _ _).trans (congrArg (fun z => zL z 1052 w8) ((zI_comm _ (by decide) _ _).trans (congrArg (fun z => zI z 1095 w7) ((zI_comm _ (by decide) _ _).trans (congrArg (fun z => zI z 1094 w6) ((zI_comm _ (by decide) _ _).trans (congrArg (fun z => zI z 1092 w5) ((zI_comm _ (by decide) _ _).trans (congrArg (fun z => zI z 1082 w4) ((zI_comm _ (by decide) _ _).trans (congrArg (fun z => zI z 1062 w3) (zI_zI _ 1020 _ _))))))))))))))))))))))))))
theorem sgX1_plan_zI1062 {σ : Sto} {w0 : Int32} {w1 : Int32} {w2 : Int32} {w3 : Int32} {w4 : Int32} {w5 : Int32} {w6 : Int32} {w7 : Int32} {w8 : Int64} {w9 : Nat → Int32} {w10 : Nat → Int32} {w11 : Nat → Int64} {w12 : Nat → Int64} {w13 : Nat → Int64} {w14 : Nat → Int64} {w15 : Nat → Int64} {g : Int32} : zI (sgX1_plan σ w0 w1 w2 w3 w4 w5 w6 w7 w8 w9 w10 w11 w12 w13 w14 w15) 1062 g = sgX1_plan σ w0 w1 w2 g w4 w5 w6 w7 w8 w9 w10 w11 w12 w13 w14 w15 := (cm_zI_aL _ _ _ _ _).trans (congrArg (fun z => aL z 1153 w15) ((cm_zI_aL _ _ _ _ _).trans (congrArg (fun z => aL z 1152 w14) ((cm_zI_aL _ _ _ _ _).trans (congrArg (fun z => aL z 1150 w13) ((cm_zI_aL _ _ _ _ _).trans (congrArg (fun z => aL z 1141 w12) ((cm_zI_aL _ _ _ _ _).trans (congrArg (fun z => aL z 1140 w11) ((cm_zI_aI _ _ _ _ _).trans (congrArg (fun z => aI z 1162 w10) ((cm_zI_aI _ _ _ _ _).trans (congrArg (fun z => aI z 1108 w9) ((cm_zI_zL _ _ _ _ _).trans (congrArg (fun z => zL z 1052 w8) ((zI_comm _ (by decide) _ _).trans (congrArg (fun z => zI z 1095 w7) ((zI_comm _ (by decide) _ _).trans (congrArg (fun z => zI z 1094 w6) ((zI_comm _ (by decide) _ _).trans (congrArg (fun z => zI z 1092 w5) ((zI_comm _ (by decide) _ _).trans (congrArg (fun z => zI z 1082 w4) (zI_zI _ 1062 _ _))))))))))))))))))))))))
theorem sgX1_plan_zI1082 {σ : Sto} {w0 : Int32} {w1 : Int32} {w2 : Int32} {w3 : Int32} {w4 : Int32} {w5 : Int32} {w6 : Int32} {w7 : Int32} {w8 : Int64} {w9 : Nat → Int32} {w10 : Nat → Int32} {w11 : Nat → Int64} {w12 : Nat → Int64} {w13 : Nat → Int64} {w14 : Nat → Int64} {w15 : Nat → Int64} {g : Int32} : zI (sgX1_plan σ w0 w1 w2 w3 w4 w5 w6 w7 w8 w9 w10 w11 w12 w13 w14 w15) 1082 g = sgX1_plan σ w0 w1 w2 w3 g w5 w6 w7 w8 w9 w10 w11 w12 w13 w14 w15 := (cm_zI_aL _ _ _ _ _).trans (congrArg (fun z => aL z 1153 w15) ((cm_zI_aL _ _ _ _ _).trans (congrArg (fun z => aL z 1152 w14) ((cm_zI_aL _ _ _ _ _).trans (congrArg (fun z => aL z 1150 w13) ((cm_zI_aL _ _ _ _ _).trans (congrArg (fun z => aL z 1141 w12) ((cm_zI_aL _ _ _ _ _).trans (congrArg (fun z => aL z 1140 w11) ((cm_zI_aI _ _ _ _ _).trans (congrArg (fun z => aI z 1162 w10) ((cm_zI_aI _ _ _ _ _).trans (congrArg (fun z => aI z 1108 w9) ((cm_zI_zL _ _ _ _ _).trans (congrArg (fun z => zL z 1052 w8) ((zI_comm _ (by decide) _ _).trans (congrArg (fun z => zI z 1095 w7) ((zI_comm _ (by decide) _ _).trans (congrArg (fun z => zI z 1094 w6) ((zI_comm _ (by decide) _ _).trans (congrArg (fun z => zI z 1092 w5) (zI_zI _ 1082 _ _))))))))))))))))))))))
theorem sgX1_plan_zI1092 {σ : Sto} {w0 : Int32} {w1 : Int32} {w2 : Int32} {w3 : Int32} {w4 : Int32} {w5 : Int32} {w6 : Int32} {w7 : Int32} {w8 : Int64} {w9 : Nat → Int32} {w10 : Nat → Int32} {w11 : Nat → Int64} {w12 : Nat → Int64} {w13 : Nat → Int64} {w14 : Nat → Int64} {w15 : Nat → Int64} {g : Int32} : zI (sgX1_plan σ w0 w1 w2 w3 w4 w5 w6 w7 w8 w9 w10 w11 w12 w13 w14 w15) 1092 g = sgX1_plan σ w0 w1 w2 w3 w4 g w6 w7 w8 w9 w10 w11 w12 w13 w14 w15 := (cm_zI_aL _ _ _ _ _).trans (congrArg (fun z => aL z 1153 w15) ((cm_zI_aL _ _ _ _ _).trans (congrArg (fun z => aL z 1152 w14) ((cm_zI_aL _ _ _ _ _).trans (congrArg (fun z => aL z 1150 w13) ((cm_zI_aL _ _ _ _ _).trans (congrArg (fun z => aL z 1141 w12) ((cm_zI_aL _ _ _ _ _).trans (congrArg (fun z => aL z 1140 w11) ((cm_zI_aI _ _ _ _ _).trans (congrArg (fun z => aI z 1162 w10) ((cm_zI_aI _ _ _ _ _).trans (congrArg (fun z => aI z 1108 w9) ((cm_zI_zL _ _ _ _ _).trans (congrArg (fun z => zL z 1052 w8) ((zI_comm _ (by decide) _ _).trans (congrArg (fun z => zI z 1095 w7) ((zI_comm _ (by decide) _ _).trans (congrArg (fun z => zI z 1094 w6) (zI_zI _ 1092 _ _))))))))))))))))))))
theorem sgX1_plan_zI1094 {σ : Sto} {w0 : Int32} {w1 : Int32} {w2 : Int32} {w3 : Int32} {w4 : Int32} {w5 : Int32} {w6 : Int32} {w7 : Int32} {w8 : Int64} {w9 : Nat → Int32} {w10 : Nat → Int32} {w11 : Nat → Int64} {w12 : Nat → Int64} {w13 : Nat → Int64} {w14 : Nat → Int64} {w15 : Nat → Int64} {g : Int32} : zI (sgX1_plan σ w0 w1 w2 w3 w4 w5 w6 w7 w8 w9 w10 w11 w12 w13 w14 w15) 1094 g = sgX1_plan σ w0 w1 w2 w3 w4 w5 g w7 w8 w9 w10 w11 w12 w13 w14 w15 := (cm_zI_aL _ _ _ _ _).trans (congrArg (fun z => aL z 1153 w15) ((cm_zI_aL _ _ _ _ _).trans (congrArg (fun z => aL z 1152 w14) ((cm_zI_aL _ _ _ _ _).trans (congrArg (fun z => aL z 1150 w13) ((cm_zI_aL _ _ _ _ _).trans (congrArg (fun z => aL z 1141 w12) ((cm_zI_aL _ _ _ _ _).trans (congrArg (fun z => aL z 1140 w11) ((cm_zI_aI _ _ _ _ _).trans (congrArg (fun z => aI z 1162 w10) ((cm_zI_aI _ _ _ _ _).trans (congrArg (fun z => aI z 1108 w9) ((cm_zI_zL _ _ _ _ _).trans (congrArg (fun z => zL z 1052 w8) ((zI_comm _ (by decide) _ _).trans (congrArg (fun z => zI z 1095 w7) (zI_zI _ 1094 _ _))))))))))))))))))
theorem sgX1_plan_zI1095 {σ : Sto} {w0 : Int32} {w1 : Int32} {w2 : Int32} {w3 : Int32} {w4 : Int32} {w5 : Int32} {w6 : Int32} {w7 : Int32} {w8 : Int64} {w9 : Nat → Int32} {w10 : Nat → Int32} {w11 : Nat → Int64} {w12 : Nat → Int64} {w13 : Nat → Int64} {w14 : Nat → Int64} {w15 : Nat → Int64} {g : Int32} : zI (sgX1_plan σ w0 w1 w2 w3 w4 w5 w6 w7 w8 w9 w10 w11 w12 w13 w14 w15) 1095 g = sgX1_plan σ w0 w1 w2 w3 w4 w5 w6 g w8 w9 w10 w11 w12 w13 w14 w15 := (cm_zI_aL _ _ _ _ _).trans (congrArg (fun z => aL z 1153 w15) ((cm_zI_aL _ _ _ _ _).trans (congrArg (fun z => aL z 1152 w14) ((cm_zI_aL _ _ _ _ _).trans (congrArg (fun z => aL z 1150 w13) ((cm_zI_aL _ _ _ _ _).trans (congrArg (fun z => aL z 1141 w12) ((cm_zI_aL _ _ _ _ _).trans (congrArg (fun z => aL z 1140 w11) ((cm_zI_aI _ _ _ _ _).trans (congrArg (fun z => aI z 1162 w10) ((cm_zI_aI _ _ _ _ _).trans (congrArg (fun z => aI z 1108 w9) ((cm_zI_zL _ _ _ _ _).trans (congrArg (fun z => zL z 1052 w8) (zI_zI _ 1095 _ _))))))))))))))))
theorem sgX1_plan_zL1052 {σ : Sto} {w0 : Int32} {w1 : Int32} {w2 : Int32} {w3 : Int32} {w4 : Int32} {w5 : Int32} {w6 : Int32} {w7 : Int32} {w8 : Int64} {w9 : Nat → Int32} {w10 : Nat → Int32} {w11 : Nat → Int64} {w12 : Nat → Int64} {w13 : Nat → Int64} {w14 : Nat → Int64} {w15 : Nat → Int64} {g : Int64} : zL (sgX1_plan σ w0 w1 w2 w3 w4 w5 w6 w7 w8 w9 w10 w11 w12 w13 w14 w15) 1052 g = sgX1_plan σ w0 w1 w2 w3 w4 w5 w6 w7 g w9 w10 w11 w12 w13 w14 w15 := (cm_zL_aL _ _ _ _ _).trans (congrArg (fun z => aL z 1153 w15) ((cm_zL_aL _ _ _ _ _).trans (congrArg (fun z => aL z 1152 w14) ((cm_zL_aL _ _ _ _ _).trans (congrArg (fun z => aL z 1150 w13) ((cm_zL_aL _ _ _ _ _).trans (congrArg (fun z => aL z 1141 w12) ((cm_zL_aL _ _ _ _ _).trans (congrArg (fun z => aL z 1140 w11) ((cm_zL_aI _ _ _ _ _).trans (congrArg (fun z => aI z 1162 w10) ((cm_zL_aI _ _ _ _ _).trans (congrArg (fun z => aI z 1108 w9) (zL_zL _ 1052 _ _))))))))))))))
theorem sgX1_plan_aI1108 {σ : Sto} {w0 : Int32} {w1 : Int32} {w2 : Int32} {w3 : Int32} {w4 : Int32} {w5 : Int32} {w6 : Int32} {w7 : Int32} {w8 : Int64} {w9 : Nat → Int32} {w10 : Nat → Int32} {w11 : Nat → Int64} {w12 : Nat → Int64} {w13 : Nat → Int64} {w14 : Nat → Int64} {w15 : Nat → Int64} {g : Nat → Int32} : aI (sgX1_plan σ w0 w1 w2 w3 w4 w5 w6 w7 w8 w9 w10 w11 w12 w13 w14 w15) 1108 g = sgX1_plan σ w0 w1 w2 w3 w4 w5 w6 w7 w8 g w10 w11 w12 w13 w14 w15 := (cm_aI_aL _ _ _ _ _).trans (congrArg (fun z => aL z 1153 w15) ((cm_aI_aL _ _ _ _ _).trans (congrArg (fun z => aL z 1152 w14) ((cm_aI_aL _ _ _ _ _).trans (congrArg (fun z => aL z 1150 w13) ((cm_aI_aL _ _ _ _ _).trans (congrArg (fun z => aL z 1141 w12) ((cm_aI_aL _ _ _ _ _).trans (congrArg (fun z => aL z 1140 w11) ((aI_comm _ (by decide) _ _).trans (congrArg (fun z => aI z 1162 w10) (aI_aI _ 1108 _ _))))))))))))
theorem sgX1_plan_aI1162 {σ : Sto} {w0 : Int32} {w1 : Int32} {w2 : Int32} {w3 : Int32} {w4 : Int32} {w5 : Int32} {w6 : Int32} {w7 : Int32} {w8 : Int64} {w9 : Nat → Int32} {w10 : Nat → Int32} {w11 : Nat → Int64} {w12 : Nat → Int64} {w13 : Nat → Int64} {w14 : Nat → Int64} {w15 : Nat → Int64} {g : Nat → Int32} : aI (sgX1_plan σ w0 w1 w2 w3 w4 w5 w6 w7 w8 w9 w10 w11 w12 w13 w14 w15) 1162 g = sgX1_plan σ w0 w1 w2 w3 w4 w5 w6 w7 w8 w9 g w11 w12 w13 w14 w15 := (cm_aI_aL _ _ _ _ _).trans (congrArg (fun z => aL z 1153 w15) ((cm_aI_aL _ _ _ _ _).trans (congrArg (fun z => aL z 1152 w14) ((cm_aI_aL _ _ _ _ _).trans (congrArg (fun z => aL z 1150 w13) ((cm_aI_aL _ _ _ _ _).trans (congrArg (fun z => aL z 1141 w12) ((cm_aI_aL _ _ _ _ _).trans (congrArg (fun z => aL z 1140 w11) (aI_aI _ 1162 _ _))))))))))
theorem sgX1_plan_aL1140 {σ : Sto} {w0 : Int32} {w1 : Int32} {w2 : Int32} {w3 : Int32} {w4 : Int32} {w5 : Int32} {w6 : Int32} {w7 : Int32} {w8 : Int64} {w9 : Nat → Int32} {w10 : Nat → Int32} {w11 : Nat → Int64} {w12 : Nat → Int64} {w13 : Nat → Int64} {w14 : Nat → Int64} {w15 : Nat → Int64} {g : Nat → Int64} : aL (sgX1_plan σ w0 w1 w2 w3 w4 w5 w6 w7 w8 w9 w10 w11 w12 w13 w14 w15) 1140 g = sgX1_plan σ w0 w1 w2 w3 w4 w5 w6 w7 w8 w9 w10 g w12 w13 w14 w15 := (aL_comm _ (by decide) _ _).trans (congrArg (fun z => aL z 1153 w15) ((aL_comm _ (by decide) _ _).trans (congrArg (fun z => aL z 1152 w14) ((aL_comm _ (by decide) _ _).trans (congrArg (fun z => aL z 1150 w13) ((aL_comm _ (by decide) _ _).trans (congrArg (fun z => aL z 1141 w12) (aL_aL _ 1140 _ _))))))))
theorem sgX1_plan_aL1141 {σ : Sto} {w0 : Int32} {w1 : Int32} {w2 : Int32} {w3 : Int32} {w4 : Int32} {w5 : Int32} {w6 : Int32} {w7 : Int32} {w8 : Int64} {w9 : Nat → Int32} {w10 : Nat → Int32} {w11 : Nat → Int64} {w12 : Nat → Int64} {w13 : Nat → Int64} {w14 : Nat → Int64} {w15 : Nat → Int64} {g : Nat → Int64} : aL (sgX1_plan σ w0 w1 w2 w3 w4 w5 w6 w7 w8 w9 w10 w11 w12 w13 w14 w15) 1141 g = sgX1_plan σ w0 w1 w2 w3 w4 w5 w6 w7 w8 w9 w10 w11 g w13 w14 w15 := (aL_comm _ (by decide) _ _).trans (congrArg (fun z => aL z 1153 w15) ((aL_comm _ (by decide) _ _).trans (congrArg (fun z => aL z 1152 w14) ((aL_comm _ (by decide) _ _).trans (congrArg (fun z => aL z 1150 w13) (aL_aL _ 1141 _ _))))))
theorem sgX1_plan_aL1150 {σ : Sto} {w0 : Int32} {w1 : Int32} {w2 : Int32} {w3 : Int32} {w4 : Int32} {w5 : Int32} {w6 : Int32} {w7 : Int32} {w8 : Int64} {w9 : Nat → Int32} {w10 : Nat → Int32} {w11 : Nat → Int64} {w12 : Nat → Int64} {w13 : Nat → Int64} {w14 : Nat → Int64} {w15 : Nat → Int64} {g : Nat → Int64} : aL (sgX1_plan σ w0 w1 w2 w3 w4 w5 w6 w7 w8 w9 w10 w11 w12 w13 w14 w15) 1150 g = sgX1_plan σ w0 w1 w2 w3 w4 w5 w6 w7 w8 w9 w10 w11 w12 g w14 w15 := (aL_comm _ (by decide) _ _).trans (congrArg (fun z => aL z 1153 w15) ((aL_comm _ (by decide) _ _).trans (congrArg (fun z => aL z 1152 w14) (aL_aL _ 1150 _ _))))
theorem sgX1_plan_aL1152 {σ : Sto} {w0 : Int32} {w1 : Int32} {w2 : Int32} {w3 : Int32} {w4 : Int32} {w5 : Int32} {w6 : Int32} {w7 : Int32} {w8 : Int64} {w9 : Nat → Int32} {w10 : Nat → Int32} {w11 : Nat → Int64} {w12 : Nat → Int64} {w13 : Nat → Int64} {w14 : Nat → Int64} {w15 : Nat → Int64} {g : Nat → Int64} : aL (sgX1_plan σ w0 w1 w2 w3 w4 w5 w6 w7 w8 w9 w10 w11 w12 w13 w14 w15) 1152 g = sgX1_plan σ w0 w1 w2 w3 w4 w5 w6 w7 w8 w9 w10 w11 w12 w13 g w15 := (aL_comm _ (by decide) _ _).trans (congrArg (fun z => aL z 1153 w15) (aL_aL _ 1152 _ _))
theorem sgX1_plan_aL1153 {σ : Sto} {w0 : Int32} {w1 : Int32} {w2 : Int32} {w3 : Int32} {w4 : Int32} {w5 : Int32} {w6 : Int32} {w7 : Int32} {w8 : Int64} {w9 : Nat → Int32} {w10 : Nat → Int32} {w11 : Nat → Int64} {w12 : Nat → Int64} {w13 : Nat → Int64} {w14 : Nat → Int64} {w15 : Nat → Int64} {g : Nat → Int64} : aL (sgX1_plan σ w0 w1 w2 w3 w4 w5 w6 w7 w8 w9 w10 w11 w12 w13 w14 w15) 1153 g = sgX1_plan σ w0 w1 w2 w3 w4 w5 w6 w7 w8 w9 w10 w11 w12 w13 w14 g := aL_aL _ 1153 _ _
theorem sgX1_plan_rzI1018 {σ : Sto} {w0 : Int32} {w1 : Int32} {w2 : Int32} {w3 : Int32} {w4 : Int32} {w5 : Int32} {w6 : Int32} {w7 : Int32} {w8 : Int64} {w9 : Nat → Int32} {w10 : Nat → Int32} {w11 : Nat → Int64} {w12 : Nat → Int64} {w13 : Nat → Int64} {w14 : Nat → Int64} {w15 : Nat → Int64} : (sgX1_plan σ w0 w1 w2 w3 w4 w5 w6 w7 w8 w9 w10 w11 w12 w13 w14 w15).1 1018 = w0 := rfl
theorem sgX1_plan_rzI1019 {σ : Sto} {w0 : Int32} {w1 : Int32} {w2 : Int32} {w3 : Int32} {w4 : Int32} {w5 : Int32} {w6 : Int32} {w7 : Int32} {w8 : Int64} {w9 : Nat → Int32} {w10 : Nat → Int32} {w11 : Nat → Int64} {w12 : Nat → Int64} {w13 : Nat → Int64} {w14 : Nat → Int64} {w15 : Nat → Int64} : (sgX1_plan σ w0 w1 w2 w3 w4 w5 w6 w7 w8 w9 w10 w11 w12 w13 w14 w15).1 1019 = w1 := rfl
theorem sgX1_plan_rzI1020 {σ : Sto} {w0 : Int32} {w1 : Int32} {w2 : Int32} {w3 : Int32} {w4 : Int32} {w5 : Int32} {w6 : Int32} {w7 : Int32} {w8 : Int64} {w9 : Nat → Int32} {w10 : Nat → Int32} {w11 : Nat → Int64} {w12 : Nat → Int64} {w13 : Nat → Int64} {w14 : Nat → Int64} {w15 : Nat → Int64} : (sgX1_plan σ w0 w1 w2 w3 w4 w5 w6 w7 w8 w9 w10 w11 w12 w13 w14 w15).1 1020 = w2 := rfl
theorem sgX1_plan_rzI1062 {σ : Sto} {w0 : Int32} {w1 : Int32} {w2 : Int32} {w3 : Int32} {w4 : Int32} {w5 : Int32} {w6 : Int32} {w7 : Int32} {w8 : Int64} {w9 : Nat → Int32} {w10 : Nat → Int32} {w11 : Nat → Int64} {w12 : Nat → Int64} {w13 : Nat → Int64} {w14 : Nat → Int64} {w15 : Nat → Int64} : (sgX1_plan σ w0 w1 w2 w3 w4 w5 w6 w7 w8 w9 w10 w11 w12 w13 w14 w15).1 1062 = w3 := rfl
theorem sgX1_plan_rzI1082 {σ : Sto} {w0 : Int32} {w1 : Int32} {w2 : Int32} {w3 : Int32} {w4 : Int32} {w5 : Int32} {w6 : Int32} {w7 : Int32} {w8 : Int64} {w9 : Nat → Int32} {w10 : Nat → Int32} {w11 : Nat → Int64} {w12 : Nat → Int64} {w13 : Nat → Int64} {w14 : Nat → Int64} {w15 : Nat → Int64} : (sgX1_plan σ w0 w1 w2 w3 w4 w5 w6 w7 w8 w9 w10 w11 w12 w13 w14 w15).1 1082 = w4 := rfl
theorem sgX1_plan_rzI1092 {σ : Sto} {w0 : Int32} {w1 : Int32} {w2 : Int32} {w3 : Int32} {w4 : Int32} {w5 : Int32} {w6 : Int32} {w7 : Int32} {w8 : Int64} {w9 : Nat → Int32} {w10 : Nat → Int32} {w11 : Nat → Int64} {w12 : Nat → Int64} {w13 : Nat → Int64} {w14 : Nat → Int64} {w15 : Nat → Int64} : (sgX1_plan σ w0 w1 w2 w3 w4 w5 w6 w7 w8 w9 w10 w11 w12 w13 w14 w15).1 1092 = w5 := rfl
theorem sgX1_plan_rzI1094 {σ : Sto} {w0 : Int32} {w1 : Int32} {w2 : Int32} {w3 : Int32} {w4 : Int32} {w5 : Int32} {w6 : Int32} {w7 : Int32} {w8 : Int64} {w9 : Nat → Int32} {w10 : Nat → Int32} {w11 : Nat → Int64} {w12 : Nat → Int64} {w13 : Nat → Int64} {w14 : Nat → Int64} {w15 : Nat → Int64} : (sgX1_plan σ w0 w1 w2 w3 w4 w5 w6 w7 w8 w9 w10 w11 w12 w13 w14 w15).1 1094 = w6 := rfl
theorem sgX1_plan_rzI1095 {σ : Sto} {w0 : Int32} {w1 : Int32} {w2 : Int32} {w3 : Int32} {w4 : Int32} {w5 : Int32} {w6 : Int32} {w7 : Int32} {w8 : Int64} {w9 : Nat → Int32} {w10 : Nat → Int32} {w11 : Nat → Int64} {w12 : Nat → Int64} {w13 : Nat → Int64} {w14 : Nat → Int64} {w15 : Nat → Int64} : (sgX1_plan σ w0 w1 w2 w3 w4 w5 w6 w7 w8 w9 w10 w11 w12 w13 w14 w15).1 1095 = w7 := rfl
theorem sgX1_plan_rzI2008 {σ : Sto} {w0 : Int32} {w1 : Int32} {w2 : Int32} {w3 : Int32} {w4 : Int32} {w5 : Int32} {w6 : Int32} {w7 : Int32} {w8 : Int64} {w9 : Nat → Int32} {w10 : Nat → Int32} {w11 : Nat → Int64} {w12 : Nat → Int64} {w13 : Nat → Int64} {w14 : Nat → Int64} {w15 : Nat → Int64} : (sgX1_plan σ w0 w1 w2 w3 w4 w5 w6 w7 w8 w9 w10 w11 w12 w13 w14 w15).1 2008 = σ.1 2008 := rfl
theorem sgX1_plan_rzI2009 {σ : Sto} {w0 : Int32} {w1 : Int32} {w2 : Int32} {w3 : Int32} {w4 : Int32} {w5 : Int32} {w6 : Int32} {w7 : Int32} {w8 : Int64} {w9 : Nat → Int32} {w10 : Nat → Int32} {w11 : Nat → Int64} {w12 : Nat → Int64} {w13 : Nat → Int64} {w14 : Nat → Int64} {w15 : Nat → Int64} : (sgX1_plan σ w0 w1 w2 w3 w4 w5 w6 w7 w8 w9 w10 w11 w12 w13 w14 w15).1 2009 = σ.1 2009 := rfl
theorem sgX1_plan_rzI2012 {σ : Sto} {w0 : Int32} {w1 : Int32} {w2 : Int32} {w3 : Int32} {w4 : Int32} {w5 : Int32} {w6 : Int32} {w7 : Int32} {w8 : Int64} {w9 : Nat → Int32} {w10 : Nat → Int32} {w11 : Nat → Int64} {w12 : Nat → Int64} {w13 : Nat → Int64} {w14 : Nat → Int64} {w15 : Nat → Int64} : (sgX1_plan σ w0 w1 w2 w3 w4 w5 w6 w7 w8 w9 w10 w11 w12 w13 w14 w15).1 2012 = σ.1 2012 := rfl
theorem sgX1_plan_rzI2013 {σ : Sto} {w0 : Int32} {w1 : Int32} {w2 : Int32} {w3 : Int32} {w4 : Int32} {w5 : Int32} {w6 : Int32} {w7 : Int32} {w8 : Int64} {w9 : Nat → Int32} {w10 : Nat → Int32} {w11 : Nat → Int64} {w12 : Nat → Int64} {w13 : Nat → Int64} {w14 : Nat → Int64} {w15 : Nat → Int64} : (sgX1_plan σ w0 w1 w2 w3 w4 w5 w6 w7 w8 w9 w10 w11 w12 w13 w14 w15).1 2013 = σ.1 2013 := rfl
theorem sgX1_plan_rzI2027 {σ : Sto} {w0 : Int32} {w1 : Int32} {w2 : Int32} {w3 : Int32} {w4 : Int32} {w5 : Int32} {w6 : Int32} {w7 : Int32} {w8 : Int64} {w9 : Nat → Int32} {w10 : Nat → Int32} {w11 : Nat → Int64} {w12 : Nat → Int64} {w13 : Nat → Int64} {w14 : Nat → Int64} {w15 : Nat → Int64} : (sgX1_plan σ w0 w1 w2 w3 w4 w5 w6 w7 w8 w9 w10 w11 w12 w13 w14 w15).1 2027 = σ.1 2027 := rfl
theorem sgX1_plan_rzI2032 {σ : Sto} {w0 : Int32} {w1 : Int32} {w2 : Int32} {w3 : Int32} {w4 : Int32} {w5 : Int32} {w6 : Int32} {w7 : Int32} {w8 : Int64} {w9 : Nat → Int32} {w10 : Nat → Int32} {w11 : Nat → Int64} {w12 : Nat → Int64} {w13 : Nat → Int64} {w14 : Nat → Int64} {w15 : Nat → Int64} : (sgX1_plan σ w0 w1 w2 w3 w4 w5 w6 w7 w8 w9 w10 w11 w12 w13 w14 w15).1 2032 = σ.1 2032 := rfl
theorem sgX1_plan_rzL1052 {σ : Sto} {w0 : Int32} {w1 : Int32} {w2 : Int32} {w3 : Int32} {w4 : Int32} {w5 : Int32} {w6 : Int32} {w7 : Int32} {w8 : Int64} {w9 : Nat → Int32} {w10 : Nat → Int32} {w11 : Nat → Int64} {w12 : Nat → Int64} {w13 : Nat → Int64} {w14 : Nat → Int64} {w15 : Nat → Int64} : (sgX1_plan σ w0 w1 w2 w3 w4 w5 w6 w7 w8 w9 w10 w11 w12 w13 w14 w15).2.1 1052 = w8 := rfl
theorem sgX1_plan_rzL1061 {σ : Sto} {w0 : Int32} {w1 : Int32} {w2 : Int32} {w3 : Int32} {w4 : Int32} {w5 : Int32} {w6 : Int32} {w7 : Int32} {w8 : Int64} {w9 : Nat → Int32} {w10 : Nat → Int32} {w11 : Nat → Int64} {w12 : Nat → Int64} {w13 : Nat → Int64} {w14 : Nat → Int64} {w15 : Nat → Int64} : (sgX1_plan σ w0 w1 w2 w3 w4 w5 w6 w7 w8 w9 w10 w11 w12 w13 w14 w15).2.1 1061 = σ.2.1 1061 := rfl
theorem sgX1_plan_rzL1081 {σ : Sto} {w0 : Int32} {w1 : Int32} {w2 : Int32} {w3 : Int32} {w4 : Int32} {w5 : Int32} {w6 : Int32} {w7 : Int32} {w8 : Int64} {w9 : Nat → Int32} {w10 : Nat → Int32} {w11 : Nat → Int64} {w12 : Nat → Int64} {w13 : Nat → Int64} {w14 : Nat → Int64} {w15 : Nat → Int64} : (sgX1_plan σ w0 w1 w2 w3 w4 w5 w6 w7 w8 w9 w10 w11 w12 w13 w14 w15).2.1 1081 = σ.2.1 1081 := rfl
theorem sgX1_plan_rzL1091 {σ : Sto} {w0 : Int32} {w1 : Int32} {w2 : Int32} {w3 : Int32} {w4 : Int32} {w5 : Int32} {w6 : Int32} {w7 : Int32} {w8 : Int64} {w9 : Nat → Int32} {w10 : Nat → Int32} {w11 : Nat → Int64} {w12 : Nat → Int64} {w13 : Nat → Int64} {w14 : Nat → Int64} {w15 : Nat → Int64} : (sgX1_plan σ w0 w1 w2 w3 w4 w5 w6 w7 w8 w9 w10 w11 w12 w13 w14 w15).2.1 1091 = σ.2.1 1091 := rfl
theorem sgX1_plan_raI1108 {σ : Sto} {w0 : Int32} {w1 : Int32} {w2 : Int32} {w3 : Int32} {w4 : Int32} {w5 : Int32} {w6 : Int32} {w7 : Int32} {w8 : Int64} {w9 : Nat → Int32} {w10 : Nat → Int32} {w11 : Nat → Int64} {w12 : Nat → Int64} {w13 : Nat → Int64} {w14 : Nat → Int64} {w15 : Nat → Int64} : (sgX1_plan σ w0 w1 w2 w3 w4 w5 w6 w7 w8 w9 w10 w11 w12 w13 w14 w15).2.2.1 1108 = w9 := rfl
theorem sgX1_plan_raI1162 {σ : Sto} {w0 : Int32} {w1 : Int32} {w2 : Int32} {w3 : Int32} {w4 : Int32} {w5 : Int32} {w6 : Int32} {w7 : Int32} {w8 : Int64} {w9 : Nat → Int32} {w10 : Nat → Int32} {w11 : Nat → Int64} {w12 : Nat → Int64} {w13 : Nat → Int64} {w14 : Nat → Int64} {w15 : Nat → Int64} : (sgX1_plan σ w0 w1 w2 w3 w4 w5 w6 w7 w8 w9 w10 w11 w12 w13 w14 w15).2.2.1 1162 = w10 := rfl
theorem sgX1_plan_raI1170 {σ : Sto} {w0 : Int32} {w1 : Int32} {w2 : Int32} {w3 : Int32} {w4 : Int32} {w5 : Int32} {w6 : Int32} {w7 : Int32} {w8 : Int64} {w9 : Nat → Int32} {w10 : Nat → Int32} {w11 : Nat → Int64} {w12 : Nat → Int64} {w13 : Nat → Int64} {w14 : Nat → Int64} {w15 : Nat → Int64} : (sgX1_plan σ w0 w1 w2 w3 w4 w5 w6 w7 w8 w9 w10 w11 w12 w13 w14 w15).2.2.1 1170 = σ.2.2.1 1170 := rfl
theorem sgX1_plan_raI2036 {σ : Sto} {w0 : Int32} {w1 : Int32} {w2 : Int32} {w3 : Int32} {w4 : Int32} {w5 : Int32} {w6 : Int32} {w7 : Int32} {w8 : Int64} {w9 : Nat → Int32} {w10 : Nat → Int32} {w11 : Nat → Int64} {w12 : Nat → Int64} {w13 : Nat → Int64} {w14 : Nat → Int64} {w15 : Nat → Int64} : (sgX1_plan σ w0 w1 w2 w3 w4 w5 w6 w7 w8 w9 w10 w11 w12 w13 w14 w15).2.2.1 2036 = σ.2.2.1 2036 := rfl
theorem sgX1_plan_raI2037 {σ : Sto} {w0 : Int32} {w1 : Int32} {w2 : Int32} {w3 : Int32} {w4 : Int32} {w5 : Int32} {w6 : Int32} {w7 : Int32} {w8 : Int64} {w9 : Nat → Int32} {w10 : Nat → Int32} {w11 : Nat → Int64} {w12 : Nat → Int64} {w13 : Nat → Int64} {w14 : Nat → Int64} {w15 : Nat → Int64} : (sgX1_plan σ w0 w1 w2 w3 w4 w5 w6 w7 w8 w9 w10 w11 w12 w13 w14 w15).2.2.1 2037 = σ.2.2.1 2037 := rfl
theorem sgX1_plan_raI2042 {σ : Sto} {w0 : Int32} {w1 : Int32} {w2 : Int32} {w3 : Int32} {w4 : Int32} {w5 : Int32} {w6 : Int32} {w7 : Int32} {w8 : Int64} {w9 : Nat → Int32} {w10 : Nat → Int32} {w11 : Nat → Int64} {w12 : Nat → Int64} {w13 : Nat → Int64} {w14 : Nat → Int64} {w15 : Nat → Int64} : (sgX1_plan σ w0 w1 w2 w3 w4 w5 w6 w7 w8 w9 w10 w11 w12 w13 w14 w15).2.2.1 2042 = σ.2.2.1 2042 := rfl
theorem sgX1_plan_raI2043 {σ : Sto} {w0 : Int32} {w1 : Int32} {w2 : Int32} {w3 : Int32} {w4 : Int32} {w5 : Int32} {w6 : Int32} {w7 : Int32} {w8 : Int64} {w9 : Nat → Int32} {w10 : Nat → Int32} {w11 : Nat → Int64} {w12 : Nat → Int64} {w13 : Nat → Int64} {w14 : Nat → Int64} {w15 : Nat → Int64} : (sgX1_plan σ w0 w1 w2 w3 w4 w5 w6 w7 w8 w9 w10 w11 w12 w13 w14 w15).2.2.1 2043 = σ.2.2.1 2043 := rfl
theorem sgX1_plan_raL1140 {σ : Sto} {w0 : Int32} {w1 : Int32} {w2 : Int32} {w3 : Int32} {w4 : Int32} {w5 : Int32} {w6 : Int32} {w7 : Int32} {w8 : Int64} {w9 : Nat → Int32} {w10 : Nat → Int32} {w11 : Nat → Int64} {w12 : Nat → Int64} {w13 : Nat → Int64} {w14 : Nat → Int64} {w15 : Nat → Int64} : (sgX1_plan σ w0 w1 w2 w3 w4 w5 w6 w7 w8 w9 w10 w11 w12 w13 w14 w15).2.2.2.1 1140 = w11 := rfl
theorem sgX1_plan_raL1141 {σ : Sto} {w0 : Int32} {w1 : Int32} {w2 : Int32} {w3 : Int32} {w4 : Int32} {w5 : Int32} {w6 : Int32} {w7 : Int32} {w8 : Int64} {w9 : Nat → Int32} {w10 : Nat → Int32} {w11 : Nat → Int64} {w12 : Nat → Int64} {w13 : Nat → Int64} {w14 : Nat → Int64} {w15 : Nat → Int64} : (sgX1_plan σ w0 w1 w2 w3 w4 w5 w6 w7 w8 w9 w10 w11 w12 w13 w14 w15).2.2.2.1 1141 = w12 := rfl
theorem sgX1_plan_raL1150 {σ : Sto} {w0 : Int32} {w1 : Int32} {w2 : Int32} {w3 : Int32} {w4 : Int32} {w5 : Int32} {w6 : Int32} {w7 : Int32} {w8 : Int64} {w9 : Nat → Int32} {w10 : Nat → Int32} {w11 : Nat → Int64} {w12 : Nat → Int64} {w13 : Nat → Int64} {w14 : Nat → Int64} {w15 : Nat → Int64} : (sgX1_plan σ w0 w1 w2 w3 w4 w5 w6 w7 w8 w9 w10 w11 w12 w13 w14 w15).2.2.2.1 1150 = w13 := rfl
theorem sgX1_plan_raL1152 {σ : Sto} {w0 : Int32} {w1 : Int32} {w2 : Int32} {w3 : Int32} {w4 : Int32} {w5 : Int32} {w6 : Int32} {w7 : Int32} {w8 : Int64} {w9 : Nat → Int32} {w10 : Nat → Int32} {w11 : Nat → Int64} {w12 : Nat → Int64} {w13 : Nat → Int64} {w14 : Nat → Int64} {w15 : Nat → Int64} : (sgX1_plan σ w0 w1 w2 w3 w4 w5 w6 w7 w8 w9 w10 w11 w12 w13 w14 w15).2.2.2.1 1152 = w14 := rfl
theorem sgX1_plan_raL1153 {σ : Sto} {w0 : Int32} {w1 : Int32} {w2 : Int32} {w3 : Int32} {w4 : Int32} {w5 : Int32} {w6 : Int32} {w7 : Int32} {w8 : Int64} {w9 : Nat → Int32} {w10 : Nat → Int32} {w11 : Nat → Int64} {w12 : Nat → Int64} {w13 : Nat → Int64} {w14 : Nat → Int64} {w15 : Nat → Int64} : (sgX1_plan σ w0 w1 w2 w3 w4 w5 w6 w7 w8 w9 w10 w11 w12 w13 w14 w15).2.2.2.1 1153 = w15 := rfl
theorem sgX1_plan_rpR2 {σ : Sto} {w0 : Int32} {w1 : Int32} {w2 : Int32} {w3 : Int32} {w4 : Int32} {w5 : Int32} {w6 : Int32} {w7 : Int32} {w8 : Int64} {w9 : Nat → Int32} {w10 : Nat → Int32} {w11 : Nat → Int64} {w12 : Nat → Int64} {w13 : Nat → Int64} {w14 : Nat → Int64} {w15 : Nat → Int64} : (fun k => (sgX1_plan σ w0 w1 w2 w3 w4 w5 w6 w7 w8 w9 w10 w11 w12 w13 w14 w15).1 (6000 + 16 * k + 2)) = (fun k => σ.1 (6000 + 16 * k + 2)) := by
  funext k
  unfold sgX1_plan
  dsimp only [zI, zL, aI, aL]
  repeat rw [if_neg (by omega)]
theorem sgX1_plan_rpR3 {σ : Sto} {w0 : Int32} {w1 : Int32} {w2 : Int32} {w3 : Int32} {w4 : Int32} {w5 : Int32} {w6 : Int32} {w7 : Int32} {w8 : Int64} {w9 : Nat → Int32} {w10 : Nat → Int32} {w11 : Nat → Int64} {w12 : Nat → Int64} {w13 : Nat → Int64} {w14 : Nat → Int64} {w15 : Nat → Int64} : (fun k => (sgX1_plan σ w0 w1 w2 w3 w4 w5 w6 w7 w8 w9 w10 w11 w12 w13 w14 w15).1 (6000 + 16 * k + 3)) = (fun k => σ.1 (6000 + 16 * k + 3)) := by
  funext k
  unfold sgX1_plan
  dsimp only [zI, zL, aI, aL]
  repeat rw [if_neg (by omega)]
theorem sgX1_plan_rpR4 {σ : Sto} {w0 : Int32} {w1 : Int32} {w2 : Int32} {w3 : Int32} {w4 : Int32} {w5 : Int32} {w6 : Int32} {w7 : Int32} {w8 : Int64} {w9 : Nat → Int32} {w10 : Nat → Int32} {w11 : Nat → Int64} {w12 : Nat → Int64} {w13 : Nat → Int64} {w14 : Nat → Int64} {w15 : Nat → Int64} : (fun k => (sgX1_plan σ w0 w1 w2 w3 w4 w5 w6 w7 w8 w9 w10 w11 w12 w13 w14 w15).1 (6000 + 16 * k + 4)) = (fun k => σ.1 (6000 + 16 * k + 4)) := by
  funext k
  unfold sgX1_plan
  dsimp only [zI, zL, aI, aL]
  repeat rw [if_neg (by omega)]
theorem sgX1_plan_rpR5 {σ : Sto} {w0 : Int32} {w1 : Int32} {w2 : Int32} {w3 : Int32} {w4 : Int32} {w5 : Int32} {w6 : Int32} {w7 : Int32} {w8 : Int64} {w9 : Nat → Int32} {w10 : Nat → Int32} {w11 : Nat → Int64} {w12 : Nat → Int64} {w13 : Nat → Int64} {w14 : Nat → Int64} {w15 : Nat → Int64} : (fun k => (sgX1_plan σ w0 w1 w2 w3 w4 w5 w6 w7 w8 w9 w10 w11 w12 w13 w14 w15).1 (6000 + 16 * k + 5)) = (fun k => σ.1 (6000 + 16 * k + 5)) := by
  funext k
  unfold sgX1_plan
  dsimp only [zI, zL, aI, aL]
  repeat rw [if_neg (by omega)]
theorem sgX1_plan_rpR6 {σ : Sto} {w0 : Int32} {w1 : Int32} {w2 : Int32} {w3 : Int32} {w4 : Int32} {w5 : Int32} {w6 : Int32} {w7 : Int32} {w8 : Int64} {w9 : Nat → Int32} {w10 : Nat → Int32} {w11 : Nat → Int64} {w12 : Nat → Int64} {w13 : Nat → Int64} {w14 : Nat → Int64} {w15 : Nat → Int64} : (fun k => (sgX1_plan σ w0 w1 w2 w3 w4 w5 w6 w7 w8 w9 w10 w11 w12 w13 w14 w15).1 (6000 + 16 * k + 6)) = (fun k => σ.1 (6000 + 16 * k + 6)) := by
  funext k
  unfold sgX1_plan
  dsimp only [zI, zL, aI, aL]
  repeat rw [if_neg (by omega)]
theorem sgX1_plan_rpW0 {σ : Sto} {w0 : Int32} {w1 : Int32} {w2 : Int32} {w3 : Int32} {w4 : Int32} {w5 : Int32} {w6 : Int32} {w7 : Int32} {w8 : Int64} {w9 : Nat → Int32} {w10 : Nat → Int32} {w11 : Nat → Int64} {w12 : Nat → Int64} {w13 : Nat → Int64} {w14 : Nat → Int64} {w15 : Nat → Int64} : (fun k => (sgX1_plan σ w0 w1 w2 w3 w4 w5 w6 w7 w8 w9 w10 w11 w12 w13 w14 w15).1 (8000 + 16 * k + 0)) = (fun k => σ.1 (8000 + 16 * k + 0)) := by
  funext k
  unfold sgX1_plan
  dsimp only [zI, zL, aI, aL]
  repeat rw [if_neg (by omega)]
theorem sgX1_plan_rpW1 {σ : Sto} {w0 : Int32} {w1 : Int32} {w2 : Int32} {w3 : Int32} {w4 : Int32} {w5 : Int32} {w6 : Int32} {w7 : Int32} {w8 : Int64} {w9 : Nat → Int32} {w10 : Nat → Int32} {w11 : Nat → Int64} {w12 : Nat → Int64} {w13 : Nat → Int64} {w14 : Nat → Int64} {w15 : Nat → Int64} : (fun k => (sgX1_plan σ w0 w1 w2 w3 w4 w5 w6 w7 w8 w9 w10 w11 w12 w13 w14 w15).1 (8000 + 16 * k + 1)) = (fun k => σ.1 (8000 + 16 * k + 1)) := by
  funext k
  unfold sgX1_plan
  dsimp only [zI, zL, aI, aL]
  repeat rw [if_neg (by omega)]
theorem sgX1_plan_rpW2 {σ : Sto} {w0 : Int32} {w1 : Int32} {w2 : Int32} {w3 : Int32} {w4 : Int32} {w5 : Int32} {w6 : Int32} {w7 : Int32} {w8 : Int64} {w9 : Nat → Int32} {w10 : Nat → Int32} {w11 : Nat → Int64} {w12 : Nat → Int64} {w13 : Nat → Int64} {w14 : Nat → Int64} {w15 : Nat → Int64} : (fun k => (sgX1_plan σ w0 w1 w2 w3 w4 w5 w6 w7 w8 w9 w10 w11 w12 w13 w14 w15).1 (8000 + 16 * k + 2)) = (fun k => σ.1 (8000 + 16 * k + 2)) := by
  funext k
  unfold sgX1_plan
  dsimp only [zI, zL, aI, aL]
  repeat rw [if_neg (by omega)]
theorem sgX1_plan_rgG0 {σ : Sto} {w0 : Int32} {w1 : Int32} {w2 : Int32} {w3 : Int32} {w4 : Int32} {w5 : Int32} {w6 : Int32} {w7 : Int32} {w8 : Int64} {w9 : Nat → Int32} {w10 : Nat → Int32} {w11 : Nat → Int64} {w12 : Nat → Int64} {w13 : Nat → Int64} {w14 : Nat → Int64} {w15 : Nat → Int64} : (fun k => (sgX1_plan σ w0 w1 w2 w3 w4 w5 w6 w7 w8 w9 w10 w11 w12 w13 w14 w15).2.2.1 (4000 + 16 * k)) = (fun k => σ.2.2.1 (4000 + 16 * k)) := by
  funext k
  unfold sgX1_plan
  dsimp only [zI, zL, aI, aL]
  repeat rw [if_neg (by omega)]
abbrev rmX1_plan : Room := { frames := 51, cells := 0, slots := 0, locals := 1389 }
set_option maxHeartbeats 4000000 in
theorem wkX1_plan {x1 : Int32} {r_ : Int32} {w_zI1018 : Int32} {w_zI1019 : Int32} {w_zI1020 : Int32} {w_zI1062 : Int32} {w_zI1082 : Int32} {w_zI1092 : Int32} {w_zI1094 : Int32} {w_zI1095 : Int32} {w_zL1052 : Int64} {w_aI1108 : Nat → Int32} {w_aI1162 : Nat → Int32} {w_aL1140 : Nat → Int64} {w_aL1141 : Nat → Int64} {w_aL1150 : Nat → Int64} {w_aL1152 : Nat → Int64} {w_aL1153 : Nat → Int64} (E : EN p s m args meth c0 RX1 cX1_plan 2 (Option.some (Jvm.ClassFile.FieldType.object "ShutPasses$Plan"))) (hX : KX D G ad A s s.heap) (hD : XD dsc nr nw nu) (hA : ∀ q, PA dsc ad s.heap.size q → A q) (hf : xo_X1_plan (σ.1 1018) (σ.1 1019) (σ.1 1020) (σ.1 1062) (σ.1 1082) (σ.1 1092) (σ.1 1094) (σ.1 1095) (σ.1 2008) (σ.1 2009) (σ.1 2012) (σ.1 2013) (σ.1 2027) (σ.1 2032) (σ.2.1 1052) (σ.2.1 1061) (σ.2.1 1081) (σ.2.1 1091) (σ.2.2.1 1108) (σ.2.2.1 1162) (σ.2.2.1 1170) (σ.2.2.1 2036) (σ.2.2.1 2037) (σ.2.2.1 2042) (σ.2.2.1 2043) (σ.2.2.2.1 1140) (σ.2.2.2.1 1141) (σ.2.2.2.1 1150) (σ.2.2.2.1 1152) (σ.2.2.2.1 1153) nr nw (fun k => σ.1 (6000 + 16 * k + 2)) (fun k => σ.1 (6000 + 16 * k + 3)) (fun k => σ.1 (6000 + 16 * k + 4)) (fun k => σ.1 (6000 + 16 * k + 5)) (fun k => σ.1 (6000 + 16 * k + 6)) (fun k => σ.1 (8000 + 16 * k + 0)) (fun k => σ.1 (8000 + 16 * k + 1)) (fun k => σ.1 (8000 + 16 * k + 2)) (fun k => σ.2.2.1 (4000 + 16 * k)) x1 = some (r_, w_zI1018, w_zI1019, w_zI1020, w_zI1062, w_zI1082, w_zI1092, w_zI1094, w_zI1095, w_zL1052, w_aI1108, w_aI1162, w_aL1140, w_aL1141, w_aL1150, w_aL1152, w_aL1153)) (hQ : Q = MQ below (va_G1 (some (va_rf (drf ad 1400 r_))) (fun t => PIC D clsA G dsc ad (sgX1_plan σ w_zI1018 w_zI1019 w_zI1020 w_zI1062 w_zI1082 w_zI1092 w_zI1094 w_zI1095 w_zL1052 w_aI1108 w_aI1162 w_aL1140 w_aL1141 w_aL1150 w_aL1152 w_aL1153) t.heap) A) args s 0 0 A) (hP : PIC D clsA G dsc ad σ H) (hS : va_S A s.heap H locs) (hl : lv_has ls 2 [(0, .ref (ad 1000)), (1, .int x1)]) : W p l e rmX1_plan s m args below meth c0 H locs 0 0 Q (F0 m 0 ls []) := by
  obtain ⟨⟨hx, hb, hml, hown, hts⟩, hr, hlk⟩ := id E
  have hP := hP.to (sgX1_plan_self σ).symm
  unfold xo_X1_plan at hf
  refine lv_aload_n hx hb dX1_plan_0 rfl (lv_at hl 0 rfl) ?_
  obtain ⟨⟨z1, z2, z3, z4, a5, a6, a7, a8, a9, a10⟩, u11, hf⟩ := bdP hf
  dsimp only at hf
  refine cx_X1_276_X1_lay E hX hD hP hS hA (kxX1_lay l D G hD sgX1_plan_rzI1018 sgX1_plan_rzI1062 sgX1_plan_rzI1082 sgX1_plan_rzI2008 sgX1_plan_rzI2009 sgX1_plan_rzI2012 sgX1_plan_rzI2013 sgX1_plan_rzI2027 sgX1_plan_rzI2032 sgX1_plan_rzL1052 sgX1_plan_rzL1061 sgX1_plan_rzL1081 sgX1_plan_raI1108 sgX1_plan_raI1162 sgX1_plan_raI1170 sgX1_plan_raI2036 sgX1_plan_raI2037 sgX1_plan_raI2042 sgX1_plan_raI2043 sgX1_plan_raL1140 sgX1_plan_raL1141 sgX1_plan_raL1150 sgX1_plan_raL1152 rfl rfl sgX1_plan_rpR2 sgX1_plan_rpR3 sgX1_plan_rpR4 sgX1_plan_rpR5 sgX1_plan_rpR6 sgX1_plan_rpW0 sgX1_plan_rpW1 sgX1_plan_rpW2 sgX1_plan_rgG0 u11) ⟨rfl, rfl⟩ ⟨Nat.le_of_ble_eq_true rfl, Nat.le_of_ble_eq_true rfl⟩ ⟨Nat.zero_le _, Nat.zero_le _⟩ hl.1 (Nat.le_of_ble_eq_true rfl) dX1_plan_1 (fun H locs hP hS => ?_)
  rw [sgX1_plan_zI1018, sgX1_plan_zI1062, sgX1_plan_zI1082, sgX1_plan_zL1052, sgX1_plan_aI1108, sgX1_plan_aI1162, sgX1_plan_aL1140, sgX1_plan_aL1141, sgX1_plan_aL1150, sgX1_plan_aL1152] at hP
  refine lv_iload_n hx hb dX1_plan_4 rfl (lv_at hl 1 rfl) ?_
  refine lv_iconst hx hb dX1_plan_5 ic_2 ?_
  have J20 : ∀ (z12 : Int32) (z13 : Int32) (z14 : Int32) (z15 : Int32) (z16 : Int32) (a17 : Nat → Int64), xo_X1_plan_J20 x1 z1 z2 z3 z4 a5 a6 a7 a8 a9 a10 z12 z13 z14 z15 z16 a17 = some (r_, w_zI1018, w_zI1019, w_zI1020, w_zI1062, w_zI1082, w_zI1092, w_zI1094, w_zI1095, w_zL1052, w_aI1108, w_aI1162, w_aL1140, w_aL1141, w_aL1150, w_aL1152, w_aL1153) → ∀ (H : Heap) (locs : List Loc), PIC D clsA G dsc ad (sgX1_plan σ z1 z12 z13 z2 z3 z14 z15 z16 z4 a5 a6 a7 a8 a9 a10 a17) H → va_S A s.heap H locs → ∀ (ls : Array Slot), lv_has ls 2 [(0, .ref (ad 1000)), (1, .int x1)] → W p l e rmX1_plan s m args below meth c0 H locs 0 0 Q (F0 m 20 ls []) := by
    intro z12 z13 z14 z15 z16 a17 hf H locs hP hS ls hl
    unfold xo_X1_plan_J20 at hf
    refine lv_iload_n hx hb dX1_plan_20 rfl (lv_at hl 1 rfl) ?_
    refine lv_iconst hx hb dX1_plan_21 ic_2 ?_
    have J42 : ∀ (k18 : Int32), xo_X1_plan_J42 z1 z2 z3 z4 a5 a6 a7 a8 a9 a10 z12 z13 z14 z15 z16 a17 k18 = some (r_, w_zI1018, w_zI1019, w_zI1020, w_zI1062, w_zI1082, w_zI1092, w_zI1094, w_zI1095, w_zL1052, w_aI1108, w_aI1162, w_aL1140, w_aL1141, w_aL1150, w_aL1152, w_aL1153) → ∀ (H : Heap) (locs : List Loc), PIC D clsA G dsc ad (sgX1_plan σ z1 z12 z13 z2 z3 z14 z15 z16 z4 a5 a6 a7 a8 a9 a10 a17) H → va_S A s.heap H locs → ∀ (ls : Array Slot), lv_has ls 2 [] → W p l e rmX1_plan s m args below meth c0 H locs 0 0 Q (F0 m 42 ls [va_rf (drf ad 1400 k18)]) := by
      intro k18 hf H locs hP hS ls hl
      unfold xo_X1_plan_J42 at hf
      cases hf
      rw [hQ]; exact g_aret hx hb hr hlk hP hS dX1_plan_42
    have J36 : xo_X1_plan_J36 x1 z1 z2 z3 z4 a5 a6 a7 a8 a9 a10 z12 z13 z14 z15 z16 a17 = some (r_, w_zI1018, w_zI1019, w_zI1020, w_zI1062, w_zI1082, w_zI1092, w_zI1094, w_zI1095, w_zL1052, w_aI1108, w_aI1162, w_aL1140, w_aL1141, w_aL1150, w_aL1152, w_aL1153) → ∀ (H : Heap) (locs : List Loc), PIC D clsA G dsc ad (sgX1_plan σ z1 z12 z13 z2 z3 z14 z15 z16 z4 a5 a6 a7 a8 a9 a10 a17) H → va_S A s.heap H locs → ∀ (ls : Array Slot), lv_has ls 2 [(0, .ref (ad 1000)), (1, .int x1)] → W p l e rmX1_plan s m args below meth c0 H locs 0 0 Q (F0 m 36 ls []) := by
      intro  hf H locs hP hS ls hl
      unfold xo_X1_plan_J36 at hf
      refine lv_aload_n hx hb dX1_plan_36 rfl (lv_at hl 0 rfl) ?_
      refine gx_X1_113_1000 E hX hD hP dX1_plan_37 ?_
      refine lv_iload_n hx hb dX1_plan_40 rfl (lv_at hl 1 rfl) ?_
      obtain ⟨v19, hv19, hf⟩ := bdP hf
      refine p_aald7 hx hb hX.1 hP (hD.1 _ _ dX_1117) hv19 dX1_plan_41 ?_
      exact J42 v19 hf H locs hP hS ls (lv_sub hl [] rfl)
    refine lv_icmp_ne (tgt := 36) hx hb dX1_plan_22 (by decide) (fun c20 => ?_) (fun c20 => ?_)
    · have hf := ifF c20 hf
      exact J36  hf H locs hP hS ls (lv_sub hl [0, 1] rfl)
    · have hf := ifT c20 hf
      refine lv_aload_n hx hb dX1_plan_25 rfl (lv_at hl 0 rfl) ?_
      refine gx_X1_296_1000 (v := z13) E hX hD hP sgX1_plan_rzI1020 dX1_plan_26 ?_
      refine lv_if_ne (tgt := 36) hx hb dX1_plan_29 (by decide) (fun c21 => ?_) (fun c21 => ?_)
      · have hf := ifF c21 hf
        exact J36  hf H locs hP hS ls (lv_sub hl [0, 1] rfl)
      · have hf := ifT c21 hf
        refine lv_null hx hb dX1_plan_32 ?_
        refine lv_goto (tgt := 42) hx hb dX1_plan_33 (by decide) ?_
        refine p_null (ad := ad) 1400 ?_
        exact J42 (-1) hf H locs hP hS ls (lv_sub hl [] rfl)
  refine lv_icmp_ne (tgt := 20) hx hb dX1_plan_6 (by decide) (fun c22 => ?_) (fun c22 => ?_)
  · have hf := ifF c22 hf
    exact J20 (σ.1 1019) (σ.1 1020) (σ.1 1092) (σ.1 1094) (σ.1 1095) (σ.2.2.2.1 1153) hf H locs hP hS ls (lv_sub hl [0, 1] rfl)
  · have hf := ifT c22 hf
    refine lv_aload_n hx hb dX1_plan_9 rfl (lv_at hl 0 rfl) ?_
    refine gx_X1_175_1000 (v := (σ.1 1019)) E hX hD hP sgX1_plan_rzI1019 dX1_plan_10 ?_
    refine lv_if_ne (tgt := 20) hx hb dX1_plan_13 (by decide) (fun c23 => ?_) (fun c23 => ?_)
    · have hf := ifF c23 hf
      exact J20 (σ.1 1019) (σ.1 1020) (σ.1 1092) (σ.1 1094) (σ.1 1095) (σ.2.2.2.1 1153) hf H locs hP hS ls (lv_sub hl [0, 1] rfl)
    · have hf := ifT c23 hf
      refine lv_aload_n hx hb dX1_plan_16 rfl (lv_at hl 0 rfl) ?_
      obtain ⟨⟨z24, z25, z26, z27, z28, a29⟩, u30, hf⟩ := bdP hf
      dsimp only at hf
      refine cx_X1_293_X1_seekFair E hX hD hP hS hA (kxX1_seekFair l D G hD sgX1_plan_rzI1019 sgX1_plan_rzI1020 sgX1_plan_rzI1082 sgX1_plan_rzI1092 sgX1_plan_rzI1094 sgX1_plan_rzI1095 sgX1_plan_rzI2008 sgX1_plan_rzI2012 sgX1_plan_rzI2013 sgX1_plan_rzI2027 sgX1_plan_rzI2032 sgX1_plan_rzL1081 sgX1_plan_rzL1091 sgX1_plan_raI1108 sgX1_plan_raI1170 sgX1_plan_raI2037 sgX1_plan_raI2043 sgX1_plan_raL1140 sgX1_plan_raL1141 sgX1_plan_raL1152 sgX1_plan_raL1153 rfl rfl sgX1_plan_rpR2 sgX1_plan_rpR5 sgX1_plan_rpR6 sgX1_plan_rpW0 sgX1_plan_rpW1 sgX1_plan_rpW2 sgX1_plan_rgG0 u30) ⟨rfl, rfl⟩ ⟨Nat.le_of_ble_eq_true rfl, Nat.le_of_ble_eq_true rfl⟩ ⟨Nat.zero_le _, Nat.zero_le _⟩ hl.1 (Nat.le_of_ble_eq_true rfl) dX1_plan_17 (fun H locs hP hS => ?_)
      rw [sgX1_plan_zI1019, sgX1_plan_zI1020, sgX1_plan_zI1092, sgX1_plan_zI1094, sgX1_plan_zI1095, sgX1_plan_aL1153] at hP
      exact J20 z24 z25 z26 z27 z28 a29 hf H locs hP hS ls (lv_sub hl [0, 1] rfl)
theorem kxX1_plan (l : Launch) (D : va_G) (G : Nat → ClassId) {dsc : Nat → Option Dsc} {ad : Nat → Nat} {σ : Sto} {nr nw nu : Nat} (hD : XD dsc nr nw nu) {x1 : Int32} {r_ : Int32} {w_zI1018 : Int32} {w_zI1019 : Int32} {w_zI1020 : Int32} {w_zI1062 : Int32} {w_zI1082 : Int32} {w_zI1092 : Int32} {w_zI1094 : Int32} {w_zI1095 : Int32} {w_zL1052 : Int64} {w_aI1108 : Nat → Int32} {w_aI1162 : Nat → Int32} {w_aL1140 : Nat → Int64} {w_aL1141 : Nat → Int64} {w_aL1150 : Nat → Int64} {w_aL1152 : Nat → Int64} {w_aL1153 : Nat → Int64} {z_X_isLaid : Int32} (e_zI1018 : σ.1 1018 = z_X_isLaid) {z_X_isFair : Int32} (e_zI1019 : σ.1 1019 = z_X_isFair) {z_X_hasFair : Int32} (e_zI1020 : σ.1 1020 = z_X_hasFair) {z_TB_by : Int32} (e_zI1062 : σ.1 1062 = z_TB_by) {z_TS_by : Int32} (e_zI1082 : σ.1 1082 = z_TS_by) {z_TF_by : Int32} (e_zI1092 : σ.1 1092 = z_TF_by) {z_TF_times : Int32} (e_zI1094 : σ.1 1094 = z_TF_times) {z_TF_of : Int32} (e_zI1095 : σ.1 1095 = z_TF_of) {z_L_places : Int32} (e_zI2008 : σ.1 2008 = z_L_places) {z_L_causes : Int32} (e_zI2009 : σ.1 2009 = z_L_causes) {z_L_from : Int32} (e_zI2012 : σ.1 2012 = z_L_from) {z_L_to : Int32} (e_zI2013 : σ.1 2013 = z_L_to) {z_Ld_size : Int32} (e_zI2027 : σ.1 2027 = z_Ld_size) {z_Lw_size : Int32} (e_zI2032 : σ.1 2032 = z_Lw_size) {z_W_all : Int64} (e_zL1052 : σ.2.1 1052 = z_W_all) {z_TB_none : Int64} (e_zL1061 : σ.2.1 1061 = z_TB_none) {z_TS_none : Int64} (e_zL1081 : σ.2.1 1081 = z_TS_none) {z_TF_none : Int64} (e_zL1091 : σ.2.1 1091 = z_TF_none) {a_X_knowing : Nat → Int32} (e_aI1108 : σ.2.2.1 1108 = a_X_knowing) {a_p3_far : Nat → Int32} (e_aI1162 : σ.2.2.1 1162 = a_p3_far) {a_UNIT : Nat → Int32} (e_aI1170 : σ.2.2.1 1170 = a_UNIT) {a_Ld_data : Nat → Int32} (e_aI2036 : σ.2.2.1 2036 = a_Ld_data) {a_Lw_data : Nat → Int32} (e_aI2037 : σ.2.2.1 2037 = a_Lw_data) {a_L_comes : Nat → Int32} (e_aI2042 : σ.2.2.1 2042 = a_L_comes) {a_L_seen : Nat → Int32} (e_aI2043 : σ.2.2.1 2043 = a_L_seen) {a_W_world : Nat → Int64} (e_aL1140 : σ.2.2.2.1 1140 = a_W_world) {a_W_likely : Nat → Int64} (e_aL1141 : σ.2.2.2.1 1141 = a_W_likely) {a_TB_value : Nat → Int64} (e_aL1150 : σ.2.2.2.1 1150 = a_TB_value) {a_TS_value : Nat → Int64} (e_aL1152 : σ.2.2.2.1 1152 = a_TS_value) {a_TF_value : Nat → Int64} (e_aL1153 : σ.2.2.2.1 1153 = a_TF_value) {n_r : Nat} (e_nN0 : nr = n_r) {n_w : Nat} (e_nN1 : nw = n_w) {p_road_hours : Nat → Int32} (e_pR2 : (fun k => σ.1 (6000 + 16 * k + 2)) = p_road_hours) {p_road_doubt : Nat → Int32} (e_pR3 : (fun k => σ.1 (6000 + 16 * k + 3)) = p_road_doubt) {p_road_cause : Nat → Int32} (e_pR4 : (fun k => σ.1 (6000 + 16 * k + 4)) = p_road_cause) {p_road_wait : Nat → Int32} (e_pR5 : (fun k => σ.1 (6000 + 16 * k + 5)) = p_road_wait) {p_road_number : Nat → Int32} (e_pR6 : (fun k => σ.1 (6000 + 16 * k + 6)) = p_road_number) {p_word_place : Nat → Int32} (e_pW0 : (fun k => σ.1 (8000 + 16 * k + 0)) = p_word_place) {p_word_road : Nat → Int32} (e_pW1 : (fun k => σ.1 (8000 + 16 * k + 1)) = p_word_road) {p_word_hours : Nat → Int32} (e_pW2 : (fun k => σ.1 (8000 + 16 * k + 2)) = p_word_hours) {g_grid : Nat → Nat → Int32} (e_gG0 : (fun k => σ.2.2.1 (4000 + 16 * k)) = g_grid) (hf : xo_X1_plan z_X_isLaid z_X_isFair z_X_hasFair z_TB_by z_TS_by z_TF_by z_TF_times z_TF_of z_L_places z_L_causes z_L_from z_L_to z_Ld_size z_Lw_size z_W_all z_TB_none z_TS_none z_TF_none a_X_knowing a_p3_far a_UNIT a_Ld_data a_Lw_data a_L_comes a_L_seen a_W_world a_W_likely a_TB_value a_TS_value a_TF_value n_r n_w p_road_hours p_road_doubt p_road_cause p_road_wait p_road_number p_word_place p_word_road p_word_hours g_grid x1 = some (r_, w_zI1018, w_zI1019, w_zI1020, w_zI1062, w_zI1082, w_zI1092, w_zI1094, w_zI1095, w_zL1052, w_aI1108, w_aI1162, w_aL1140, w_aL1141, w_aL1150, w_aL1152, w_aL1153)) : CtG l D G dsc ad yX1_plan (ws_ yX1_plan cX1_plan 2 (Option.some (Jvm.ClassFile.FieldType.object "ShutPasses$Plan"))) rmX1_plan [.ref (ad 1000), .int x1] σ (some (va_rf (drf ad 1400 r_))) (aL (aL (aL (aL (aL (aI (aI (zL (zI (zI (zI (zI (zI (zI (zI (zI σ 1018 w_zI1018) 1019 w_zI1019) 1020 w_zI1020) 1062 w_zI1062) 1082 w_zI1082) 1092 w_zI1092) 1094 w_zI1094) 1095 w_zI1095) 1052 w_zL1052) 1108 w_aI1108) 1162 w_aI1162) 1140 w_aL1140) 1141 w_aL1141) 1150 w_aL1150) 1152 w_aL1152) 1153 w_aL1153) := by
  subst e_zI1018
  subst e_zI1019
  subst e_zI1020
  subst e_zI1062
  subst e_zI1082
  subst e_zI1092
  subst e_zI1094
  subst e_zI1095
  subst e_zI2008
  subst e_zI2009
  subst e_zI2012
  subst e_zI2013
  subst e_zI2027
  subst e_zI2032
  subst e_zL1052
  subst e_zL1061
  subst e_zL1081
  subst e_zL1091
  subst e_aI1108
  subst e_aI1162
  subst e_aI1170
  subst e_aI2036
  subst e_aI2037
  subst e_aI2042
  subst e_aI2043
  subst e_aL1140
  subst e_aL1141
  subst e_aL1150
  subst e_aL1152
  subst e_aL1153
  subst e_nN0
  subst e_nN1
  subst e_pR2
  subst e_pR3
  subst e_pR4
  subst e_pR5
  subst e_pR6
  subst e_pW0
  subst e_pW1
  subst e_pW2
  subst e_gG0
  exact p_ctG (by decide +kernel) (Nat.le_of_ble_eq_true rfl) (fun p e s m below meth c0 ls A E hP hX hA hS hl => wkX1_plan E hX hD hA hf rfl hP hS hl)
theorem cx_X1_315_X1_isPlan {rm : Room} {σ1 : Sto} {x1 : Int32} {r : Int32} (E : EN p s m args meth c0 RX1 cc nL ret) (hX : KX D G ad A s s.heap) (hD : XD dsc nr nw nu) (hP : PIC D clsA G dsc ad σ H) (hS : va_S A s.heap H locs) (hA : ∀ q, PA dsc ad s.heap.size q → A q) (hM : CtG l D G dsc ad yX1_isPlan (ws_ yX1_isPlan cX1_isPlan 2 (Option.some Jvm.ClassFile.FieldType.boolean)) rm [.ref (ad 1000), .int x1] σ (some (.int r)) σ1) (hz : rm.cells = 0 ∧ rm.slots = 0) (hR : rm.frames + 1 ≤ R.frames ∧ 8 + (2 + 11) + rm.locals ≤ R.locals) (hcs : cells ≤ R.cells ∧ slots ≤ R.slots) (hsz : ls.size = nL) (hW : (rest.map fun v => v.category).sum ≤ 8) (hdg : decode cc pc = .ok (.invokevirtual 315, 3)) (kk : ∀ (H1 : Heap) (locs1 : List Loc), PIC D clsA G dsc ad σ1 H1 → va_S A s.heap H1 locs1 → W p l e R s m args below meth c0 H1 locs1 cells slots Q (F0 m (pc + 3) ls (.int r :: rest))) : W p l e R s m args below meth c0 H locs cells slots Q (F0 m pc ls (.int x1 :: .ref (ad 1000) :: rest)) :=
  p_gV (As := [.int x1]) (rest := rest) E.1 hX hP hS hA hM (cwV 1 E.1.2.2.2.2 (lw_V q1253 q1255 qs26 q124 q1256) rfl hz.1 hz.2 (by decide +kernel) hR) (hD.1 _ _ dX_1000) rfl rfl rfl hsz rfl hW hdg hcs kk
theorem cx_X1_270_X1_isWorld {rm : Room} {σ1 : Sto} {x1 : Int32} {r : Int32} (E : EN p s m args meth c0 RX1 cc nL ret) (hX : KX D G ad A s s.heap) (hD : XD dsc nr nw nu) (hP : PIC D clsA G dsc ad σ H) (hS : va_S A s.heap H locs) (hA : ∀ q, PA dsc ad s.heap.size q → A q) (hM : CtG l D G dsc ad yX1_isWorld (ws_ yX1_isWorld cX1_isWorld 2 (Option.some Jvm.ClassFile.FieldType.boolean)) rm [.ref (ad 1000), .int x1] σ (some (.int r)) σ1) (hz : rm.cells = 0 ∧ rm.slots = 0) (hR : rm.frames + 1 ≤ R.frames ∧ 8 + (2 + 11) + rm.locals ≤ R.locals) (hcs : cells ≤ R.cells ∧ slots ≤ R.slots) (hsz : ls.size = nL) (hW : (rest.map fun v => v.category).sum ≤ 8) (hdg : decode cc pc = .ok (.invokevirtual 270, 3)) (kk : ∀ (H1 : Heap) (locs1 : List Loc), PIC D clsA G dsc ad σ1 H1 → va_S A s.heap H1 locs1 → W p l e R s m args below meth c0 H1 locs1 cells slots Q (F0 m (pc + 3) ls (.int r :: rest))) : W p l e R s m args below meth c0 H locs cells slots Q (F0 m pc ls (.int x1 :: .ref (ad 1000) :: rest)) :=
  p_gV (As := [.int x1]) (rest := rest) E.1 hX hP hS hA hM (cwV 1 E.1.2.2.2.2 (lw_V q987 q989 qs20 q124 q990) rfl hz.1 hz.2 (by decide +kernel) hR) (hD.1 _ _ dX_1000) rfl rfl rfl hsz rfl hW hdg hcs kk
theorem cx_X1_318_X1_plan {rm : Room} {σ1 : Sto} {x1 : Int32} {r : Int32} (E : EN p s m args meth c0 RX1 cc nL ret) (hX : KX D G ad A s s.heap) (hD : XD dsc nr nw nu) (hP : PIC D clsA G dsc ad σ H) (hS : va_S A s.heap H locs) (hA : ∀ q, PA dsc ad s.heap.size q → A q) (hM : CtG l D G dsc ad yX1_plan (ws_ yX1_plan cX1_plan 2 (Option.some (Jvm.ClassFile.FieldType.object "ShutPasses$Plan"))) rm [.ref (ad 1000), .int x1] σ (some (va_rf (drf ad 1400 r))) σ1) (hz : rm.cells = 0 ∧ rm.slots = 0) (hR : rm.frames + 1 ≤ R.frames ∧ 8 + (2 + 11) + rm.locals ≤ R.locals) (hcs : cells ≤ R.cells ∧ slots ≤ R.slots) (hsz : ls.size = nL) (hW : (rest.map fun v => v.category).sum ≤ 8) (hdg : decode cc pc = .ok (.invokevirtual 318, 3)) (kk : ∀ (H1 : Heap) (locs1 : List Loc), PIC D clsA G dsc ad σ1 H1 → va_S A s.heap H1 locs1 → W p l e R s m args below meth c0 H1 locs1 cells slots Q (F0 m (pc + 3) ls (va_rf (drf ad 1400 r) :: rest))) : W p l e R s m args below meth c0 H locs cells slots Q (F0 m pc ls (.int x1 :: .ref (ad 1000) :: rest)) :=
  p_gV (As := [.int x1]) (rest := rest) E.1 hX hP hS hA hM (cwV 1 E.1.2.2.2.2 (lw_V q1257 q1259 qs27 q124 q1260) rfl hz.1 hz.2 (by decide +kernel) hR) (hD.1 _ _ dX_1000) rfl rfl rfl hsz rfl hW hdg hcs kk
theorem cx_X1_328_X9_hours_p0 {rm : Room} {σ1 : Sto} {x1 : Int32} {r : Int32} (E : EN p s m args meth c0 RX1 cc nL ret) (hX : KX D G ad A s s.heap) (hD : XD dsc nr nw nu) (hP : PIC D clsA G dsc ad σ H) (hS : va_S A s.heap H locs) (hA : ∀ q, PA dsc ad s.heap.size q → A q) (hM : CtG l D G dsc ad yX9_hours (ws_ yX9_hours cX9_hours 9 (Option.some Jvm.ClassFile.FieldType.int)) rm [.ref (ad 1400), .int x1] σ (some (.int r)) σ1) (hz : rm.cells = 0 ∧ rm.slots = 0) (hR : rm.frames + 1 ≤ R.frames ∧ 8 + (9 + 11) + rm.locals ≤ R.locals) (hcs : cells ≤ R.cells ∧ slots ≤ R.slots) (hsz : ls.size = nL) (hW : (rest.map fun v => v.category).sum ≤ 8) (hdg : decode cc pc = .ok (.invokevirtual 328, 3)) (kk : ∀ (H1 : Heap) (locs1 : List Loc), PIC D clsA G dsc ad σ1 H1 → va_S A s.heap H1 locs1 → W p l e R s m args below meth c0 H1 locs1 cells slots Q (F0 m (pc + 3) ls (.int r :: rest))) : W p l e R s m args below meth c0 H locs cells slots Q (F0 m pc ls (.int x1 :: .ref (ad 1400) :: rest)) :=
  p_gU (As := [.int x1]) (rest := rest) E.1 hX hP hS hA hM (cw_any (owner := "ShutPasses$Plan") (x := ⟨"ShutPasses$Plan", "hours", "(I)I"⟩) (y := yX9_hours) (C := "ShutPasses$ByTable") (index := 328) (own := RX1) 1 E.1.2.2.2.2 (lw_meth q1283) rfl hz.1 hz.2 (E.1.2.2.2.2 _ q1354) (E.1.2.2.2.2 _ q1277) (va_Decl.of (E.1.2.2.2.2 _ q1276) (E.1.2.2.2.2 _ q1283)) (E.1.2.2.2.2 _ q1279) (E.1.2.2.2.2 _ q1276) (E.1.2.2.2.2 _ q135) (by decide +kernel) hR) (hD.1 _ _ dX_1400) rfl rfl rfl hsz rfl hW hdg hcs kk
theorem cx_X1_328_X9_hours_p1 {rm : Room} {σ1 : Sto} {x1 : Int32} {r : Int32} (E : EN p s m args meth c0 RX1 cc nL ret) (hX : KX D G ad A s s.heap) (hD : XD dsc nr nw nu) (hP : PIC D clsA G dsc ad σ H) (hS : va_S A s.heap H locs) (hA : ∀ q, PA dsc ad s.heap.size q → A q) (hM : CtG l D G dsc ad yX9_hours (ws_ yX9_hours cX9_hours 9 (Option.some Jvm.ClassFile.FieldType.int)) rm [.ref (ad 1416), .int x1] σ (some (.int r)) σ1) (hz : rm.cells = 0 ∧ rm.slots = 0) (hR : rm.frames + 1 ≤ R.frames ∧ 8 + (9 + 11) + rm.locals ≤ R.locals) (hcs : cells ≤ R.cells ∧ slots ≤ R.slots) (hsz : ls.size = nL) (hW : (rest.map fun v => v.category).sum ≤ 8) (hdg : decode cc pc = .ok (.invokevirtual 328, 3)) (kk : ∀ (H1 : Heap) (locs1 : List Loc), PIC D clsA G dsc ad σ1 H1 → va_S A s.heap H1 locs1 → W p l e R s m args below meth c0 H1 locs1 cells slots Q (F0 m (pc + 3) ls (.int r :: rest))) : W p l e R s m args below meth c0 H locs cells slots Q (F0 m pc ls (.int x1 :: .ref (ad 1416) :: rest)) :=
  p_gU (As := [.int x1]) (rest := rest) E.1 hX hP hS hA hM (cw_any (owner := "ShutPasses$Plan") (x := ⟨"ShutPasses$Plan", "hours", "(I)I"⟩) (y := yX9_hours) (C := "ShutPasses$ByTable") (index := 328) (own := RX1) 1 E.1.2.2.2.2 (lw_meth q1283) rfl hz.1 hz.2 (E.1.2.2.2.2 _ q1354) (E.1.2.2.2.2 _ q1277) (va_Decl.of (E.1.2.2.2.2 _ q1276) (E.1.2.2.2.2 _ q1283)) (E.1.2.2.2.2 _ q1279) (E.1.2.2.2.2 _ q1276) (E.1.2.2.2.2 _ q135) (by decide +kernel) hR) (hD.1 _ _ dX_1416) rfl rfl rfl hsz rfl hW hdg hcs kk
theorem cx_X1_328_X9_hours_p2 {rm : Room} {σ1 : Sto} {x1 : Int32} {r : Int32} (E : EN p s m args meth c0 RX1 cc nL ret) (hX : KX D G ad A s s.heap) (hD : XD dsc nr nw nu) (hP : PIC D clsA G dsc ad σ H) (hS : va_S A s.heap H locs) (hA : ∀ q, PA dsc ad s.heap.size q → A q) (hM : CtG l D G dsc ad yX9_hours (ws_ yX9_hours cX9_hours 9 (Option.some Jvm.ClassFile.FieldType.int)) rm [.ref (ad 1432), .int x1] σ (some (.int r)) σ1) (hz : rm.cells = 0 ∧ rm.slots = 0) (hR : rm.frames + 1 ≤ R.frames ∧ 8 + (9 + 11) + rm.locals ≤ R.locals) (hcs : cells ≤ R.cells ∧ slots ≤ R.slots) (hsz : ls.size = nL) (hW : (rest.map fun v => v.category).sum ≤ 8) (hdg : decode cc pc = .ok (.invokevirtual 328, 3)) (kk : ∀ (H1 : Heap) (locs1 : List Loc), PIC D clsA G dsc ad σ1 H1 → va_S A s.heap H1 locs1 → W p l e R s m args below meth c0 H1 locs1 cells slots Q (F0 m (pc + 3) ls (.int r :: rest))) : W p l e R s m args below meth c0 H locs cells slots Q (F0 m pc ls (.int x1 :: .ref (ad 1432) :: rest)) :=
  p_gU (As := [.int x1]) (rest := rest) E.1 hX hP hS hA hM (cw_any (owner := "ShutPasses$Plan") (x := ⟨"ShutPasses$Plan", "hours", "(I)I"⟩) (y := yX9_hours) (C := "ShutPasses$ByTable") (index := 328) (own := RX1) 1 E.1.2.2.2.2 (lw_meth q1283) rfl hz.1 hz.2 (E.1.2.2.2.2 _ q1354) (E.1.2.2.2.2 _ q1277) (va_Decl.of (E.1.2.2.2.2 _ q1276) (E.1.2.2.2.2 _ q1283)) (E.1.2.2.2.2 _ q1279) (E.1.2.2.2.2 _ q1276) (E.1.2.2.2.2 _ q135) (by decide +kernel) hR) (hD.1 _ _ dX_1432) rfl rfl rfl hsz rfl hW hdg hcs kk
theorem cx_X1_328_X9_hours_p3 {rm : Room} {σ1 : Sto} {x1 : Int32} {r : Int32} (E : EN p s m args meth c0 RX1 cc nL ret) (hX : KX D G ad A s s.heap) (hD : XD dsc nr nw nu) (hP : PIC D clsA G dsc ad σ H) (hS : va_S A s.heap H locs) (hA : ∀ q, PA dsc ad s.heap.size q → A q) (hM : CtG l D G dsc ad yX9_hours (ws_ yX9_hours cX9_hours 9 (Option.some Jvm.ClassFile.FieldType.int)) rm [.ref (ad 1448), .int x1] σ (some (.int r)) σ1) (hz : rm.cells = 0 ∧ rm.slots = 0) (hR : rm.frames + 1 ≤ R.frames ∧ 8 + (9 + 11) + rm.locals ≤ R.locals) (hcs : cells ≤ R.cells ∧ slots ≤ R.slots) (hsz : ls.size = nL) (hW : (rest.map fun v => v.category).sum ≤ 8) (hdg : decode cc pc = .ok (.invokevirtual 328, 3)) (kk : ∀ (H1 : Heap) (locs1 : List Loc), PIC D clsA G dsc ad σ1 H1 → va_S A s.heap H1 locs1 → W p l e R s m args below meth c0 H1 locs1 cells slots Q (F0 m (pc + 3) ls (.int r :: rest))) : W p l e R s m args below meth c0 H locs cells slots Q (F0 m pc ls (.int x1 :: .ref (ad 1448) :: rest)) :=
  p_gU (As := [.int x1]) (rest := rest) E.1 hX hP hS hA hM (cw_any (owner := "ShutPasses$Plan") (x := ⟨"ShutPasses$Plan", "hours", "(I)I"⟩) (y := yX9_hours) (C := "ShutPasses$Hope") (index := 328) (own := RX1) 1 E.1.2.2.2.2 (lw_meth q1283) rfl hz.1 hz.2 (E.1.2.2.2.2 _ q1354) (E.1.2.2.2.2 _ q1277) (va_Decl.of (E.1.2.2.2.2 _ q1276) (E.1.2.2.2.2 _ q1283)) (E.1.2.2.2.2 _ q1281) (E.1.2.2.2.2 _ q1276) (E.1.2.2.2.2 _ q135) (by decide +kernel) hR) (hD.1 _ _ dX_1448) rfl rfl rfl hsz rfl hW hdg hcs kk
theorem cx_X1_328_X9_hours_p4 {rm : Room} {σ1 : Sto} {x1 : Int32} {r : Int32} (E : EN p s m args meth c0 RX1 cc nL ret) (hX : KX D G ad A s s.heap) (hD : XD dsc nr nw nu) (hP : PIC D clsA G dsc ad σ H) (hS : va_S A s.heap H locs) (hA : ∀ q, PA dsc ad s.heap.size q → A q) (hM : CtG l D G dsc ad yX9_hours (ws_ yX9_hours cX9_hours 9 (Option.some Jvm.ClassFile.FieldType.int)) rm [.ref (ad 1464), .int x1] σ (some (.int r)) σ1) (hz : rm.cells = 0 ∧ rm.slots = 0) (hR : rm.frames + 1 ≤ R.frames ∧ 8 + (9 + 11) + rm.locals ≤ R.locals) (hcs : cells ≤ R.cells ∧ slots ≤ R.slots) (hsz : ls.size = nL) (hW : (rest.map fun v => v.category).sum ≤ 8) (hdg : decode cc pc = .ok (.invokevirtual 328, 3)) (kk : ∀ (H1 : Heap) (locs1 : List Loc), PIC D clsA G dsc ad σ1 H1 → va_S A s.heap H1 locs1 → W p l e R s m args below meth c0 H1 locs1 cells slots Q (F0 m (pc + 3) ls (.int r :: rest))) : W p l e R s m args below meth c0 H locs cells slots Q (F0 m pc ls (.int x1 :: .ref (ad 1464) :: rest)) :=
  p_gU (As := [.int x1]) (rest := rest) E.1 hX hP hS hA hM (cw_any (owner := "ShutPasses$Plan") (x := ⟨"ShutPasses$Plan", "hours", "(I)I"⟩) (y := yX9_hours) (C := "ShutPasses$Fear") (index := 328) (own := RX1) 1 E.1.2.2.2.2 (lw_meth q1283) rfl hz.1 hz.2 (E.1.2.2.2.2 _ q1354) (E.1.2.2.2.2 _ q1277) (va_Decl.of (E.1.2.2.2.2 _ q1276) (E.1.2.2.2.2 _ q1283)) (E.1.2.2.2.2 _ q1280) (E.1.2.2.2.2 _ q1276) (E.1.2.2.2.2 _ q135) (by decide +kernel) hR) (hD.1 _ _ dX_1464) rfl rfl rfl hsz rfl hW hdg hcs kk
theorem cx_X1_328_X9_hours_p5 {rm : Room} {σ1 : Sto} {x1 : Int32} {r : Int32} (E : EN p s m args meth c0 RX1 cc nL ret) (hX : KX D G ad A s s.heap) (hD : XD dsc nr nw nu) (hP : PIC D clsA G dsc ad σ H) (hS : va_S A s.heap H locs) (hA : ∀ q, PA dsc ad s.heap.size q → A q) (hM : CtG l D G dsc ad yX9_hours (ws_ yX9_hours cX9_hours 9 (Option.some Jvm.ClassFile.FieldType.int)) rm [.ref (ad 1480), .int x1] σ (some (.int r)) σ1) (hz : rm.cells = 0 ∧ rm.slots = 0) (hR : rm.frames + 1 ≤ R.frames ∧ 8 + (9 + 11) + rm.locals ≤ R.locals) (hcs : cells ≤ R.cells ∧ slots ≤ R.slots) (hsz : ls.size = nL) (hW : (rest.map fun v => v.category).sum ≤ 8) (hdg : decode cc pc = .ok (.invokevirtual 328, 3)) (kk : ∀ (H1 : Heap) (locs1 : List Loc), PIC D clsA G dsc ad σ1 H1 → va_S A s.heap H1 locs1 → W p l e R s m args below meth c0 H1 locs1 cells slots Q (F0 m (pc + 3) ls (.int r :: rest))) : W p l e R s m args below meth c0 H locs cells slots Q (F0 m pc ls (.int x1 :: .ref (ad 1480) :: rest)) :=
  p_gU (As := [.int x1]) (rest := rest) E.1 hX hP hS hA hM (cw_any (owner := "ShutPasses$Plan") (x := ⟨"ShutPasses$Plan", "hours", "(I)I"⟩) (y := yX9_hours) (C := "ShutPasses$Tries") (index := 328) (own := RX1) 1 E.1.2.2.2.2 (lw_meth q1283) rfl hz.1 hz.2 (E.1.2.2.2.2 _ q1354) (E.1.2.2.2.2 _ q1277) (va_Decl.of (E.1.2.2.2.2 _ q1276) (E.1.2.2.2.2 _ q1283)) (E.1.2.2.2.2 _ q1282) (E.1.2.2.2.2 _ q1276) (E.1.2.2.2.2 _ q135) (by decide +kernel) hR) (hD.1 _ _ dX_1480) rfl rfl rfl hsz rfl hW hdg hcs kk
theorem cx_X1_328_X9_hours_p6 {rm : Room} {σ1 : Sto} {x1 : Int32} {r : Int32} (E : EN p s m args meth c0 RX1 cc nL ret) (hX : KX D G ad A s s.heap) (hD : XD dsc nr nw nu) (hP : PIC D clsA G dsc ad σ H) (hS : va_S A s.heap H locs) (hA : ∀ q, PA dsc ad s.heap.size q → A q) (hM : CtG l D G dsc ad yX9_hours (ws_ yX9_hours cX9_hours 9 (Option.some Jvm.ClassFile.FieldType.int)) rm [.ref (ad 1496), .int x1] σ (some (.int r)) σ1) (hz : rm.cells = 0 ∧ rm.slots = 0) (hR : rm.frames + 1 ≤ R.frames ∧ 8 + (9 + 11) + rm.locals ≤ R.locals) (hcs : cells ≤ R.cells ∧ slots ≤ R.slots) (hsz : ls.size = nL) (hW : (rest.map fun v => v.category).sum ≤ 8) (hdg : decode cc pc = .ok (.invokevirtual 328, 3)) (kk : ∀ (H1 : Heap) (locs1 : List Loc), PIC D clsA G dsc ad σ1 H1 → va_S A s.heap H1 locs1 → W p l e R s m args below meth c0 H1 locs1 cells slots Q (F0 m (pc + 3) ls (.int r :: rest))) : W p l e R s m args below meth c0 H locs cells slots Q (F0 m pc ls (.int x1 :: .ref (ad 1496) :: rest)) :=
  p_gU (As := [.int x1]) (rest := rest) E.1 hX hP hS hA hM (cw_any (owner := "ShutPasses$Plan") (x := ⟨"ShutPasses$Plan", "hours", "(I)I"⟩) (y := yX9_hours) (C := "ShutPasses$ByHand") (index := 328) (own := RX1) 1 E.1.2.2.2.2 (lw_meth q1283) rfl hz.1 hz.2 (E.1.2.2.2.2 _ q1354) (E.1.2.2.2.2 _ q1277) (va_Decl.of (E.1.2.2.2.2 _ q1276) (E.1.2.2.2.2 _ q1283)) (E.1.2.2.2.2 _ q1278) (E.1.2.2.2.2 _ q1276) (E.1.2.2.2.2 _ q135) (by decide +kernel) hR) (hD.1 _ _ dX_1496) rfl rfl rfl hsz rfl hW hdg hcs kk
theorem cx_X1_328_D {v : Int32} {x1 : Int32} {r : Int32} {w_aI1160 : Nat → Int32} {w_aI1162 : Nat → Int32} {w_aI1163 : Nat → Int32} (E : EN p s m args meth c0 RX1 cc nL ret) (hX : KX D G ad A s s.heap) (hD : XD dsc nr nw nu) (hP : PIC D clsA G dsc ad σ H) (hS : va_S A s.heap H locs) (hA : ∀ q, PA dsc ad s.heap.size q → A q) {z_TB_by : Int32} (e_zI1062 : σ.1 1062 = z_TB_by) {z_TS_by : Int32} (e_zI1082 : σ.1 1082 = z_TS_by) {z_TF_by : Int32} (e_zI1092 : σ.1 1092 = z_TF_by) {z_TF_times : Int32} (e_zI1094 : σ.1 1094 = z_TF_times) {z_TF_of : Int32} (e_zI1095 : σ.1 1095 = z_TF_of) {z_ru_size : Int32} (e_zI1262 : σ.1 1262 = z_ru_size) {z_p5_many : Int32} (e_zI1485 : σ.1 1485 = z_p5_many) {z_L_places : Int32} (e_zI2008 : σ.1 2008 = z_L_places) {z_L_from : Int32} (e_zI2012 : σ.1 2012 = z_L_from) {z_L_to : Int32} (e_zI2013 : σ.1 2013 = z_L_to) {z_Ld_size : Int32} (e_zI2027 : σ.1 2027 = z_Ld_size) {z_Lw_size : Int32} (e_zI2032 : σ.1 2032 = z_Lw_size) {z_TB_none : Int64} (e_zL1061 : σ.2.1 1061 = z_TB_none) {z_TS_none : Int64} (e_zL1081 : σ.2.1 1081 = z_TS_none) {z_TF_none : Int64} (e_zL1091 : σ.2.1 1091 = z_TF_none) {a_X_knowing : Nat → Int32} (e_aI1108 : σ.2.2.1 1108 = a_X_knowing) {a_p5_far : Nat → Int32} (e_aI1160 : σ.2.2.1 1160 = a_p5_far) {a_p3_far : Nat → Int32} (e_aI1162 : σ.2.2.1 1162 = a_p3_far) {a_p4_far : Nat → Int32} (e_aI1163 : σ.2.2.1 1163 = a_p4_far) {a_p5_row : Nat → Int32} (e_aI1164 : σ.2.2.1 1164 = a_p5_row) {a_UNIT : Nat → Int32} (e_aI1170 : σ.2.2.1 1170 = a_UNIT) {a_ru_data : Nat → Int32} (e_aI1265 : σ.2.2.1 1265 = a_ru_data) {a_Lw_data : Nat → Int32} (e_aI2037 : σ.2.2.1 2037 = a_Lw_data) {a_L_seen : Nat → Int32} (e_aI2043 : σ.2.2.1 2043 = a_L_seen) {a_W_world : Nat → Int64} (e_aL1140 : σ.2.2.2.1 1140 = a_W_world) {a_W_likely : Nat → Int64} (e_aL1141 : σ.2.2.2.1 1141 = a_W_likely) {a_TB_value : Nat → Int64} (e_aL1150 : σ.2.2.2.1 1150 = a_TB_value) {a_TS_value : Nat → Int64} (e_aL1152 : σ.2.2.2.1 1152 = a_TS_value) {a_TF_value : Nat → Int64} (e_aL1153 : σ.2.2.2.1 1153 = a_TF_value) {n_r : Nat} (e_nN0 : nr = n_r) {n_w : Nat} (e_nN1 : nw = n_w) {n_u : Nat} (e_nN2 : nu = n_u) {p_road_hours : Nat → Int32} (e_pR2 : (fun k => σ.1 (6000 + 16 * k + 2)) = p_road_hours) {p_road_wait : Nat → Int32} (e_pR5 : (fun k => σ.1 (6000 + 16 * k + 5)) = p_road_wait) {p_road_number : Nat → Int32} (e_pR6 : (fun k => σ.1 (6000 + 16 * k + 6)) = p_road_number) {p_word_place : Nat → Int32} (e_pW0 : (fun k => σ.1 (8000 + 16 * k + 0)) = p_word_place) {p_word_road : Nat → Int32} (e_pW1 : (fun k => σ.1 (8000 + 16 * k + 1)) = p_word_road) {p_word_hours : Nat → Int32} (e_pW2 : (fun k => σ.1 (8000 + 16 * k + 2)) = p_word_hours) {p_rule_place : Nat → Int32} (e_pU0 : (fun k => σ.1 (10000 + 16 * k + 0)) = p_rule_place) {p_rule_road : Nat → Int32} (e_pU1 : (fun k => σ.1 (10000 + 16 * k + 1)) = p_rule_road) {p_rule_known : Nat → Int32} (e_pU2 : (fun k => σ.1 (10000 + 16 * k + 2)) = p_rule_known) {p_rule_to : Nat → Int32} (e_pU3 : (fun k => σ.1 (10000 + 16 * k + 3)) = p_rule_to) {g_grid : Nat → Nat → Int32} (e_gG0 : (fun k => σ.2.2.1 (4000 + 16 * k)) = g_grid) (hu : xo_D_hours z_TB_by z_TS_by z_TF_by z_TF_times z_TF_of z_ru_size z_p5_many z_L_places z_L_from z_L_to z_Ld_size z_Lw_size z_TB_none z_TS_none z_TF_none a_X_knowing a_p5_far a_p3_far a_p4_far a_p5_row a_UNIT a_ru_data a_Lw_data a_L_seen a_W_world a_W_likely a_TB_value a_TS_value a_TF_value n_r n_w n_u p_road_hours p_road_wait p_road_number p_word_place p_word_road p_word_hours p_rule_place p_rule_road p_rule_known p_rule_to g_grid v x1 = some (r, w_aI1160, w_aI1162, w_aI1163)) (hR : 48 + 1 ≤ R.frames ∧ 8 + (9 + 11) + 1309 ≤ R.locals) (hcs : cells ≤ R.cells ∧ slots ≤ R.slots) (hsz : ls.size = nL) (hW : (rest.map fun v => v.category).sum ≤ 8) (hdg : decode cc pc = .ok (.invokevirtual 328, 3)) (kk : ∀ (H1 : Heap) (locs1 : List Loc), PIC D clsA G dsc ad (aI (aI (aI σ 1160 w_aI1160) 1162 w_aI1162) 1163 w_aI1163) H1 → va_S A s.heap H1 locs1 → W p l e R s m args below meth c0 H1 locs1 cells slots Q (F0 m (pc + 3) ls (.int r :: rest))) : W p l e R s m args below meth c0 H locs cells slots Q (F0 m pc ls (.int x1 :: va_rf (drf ad 1400 v) :: rest)) := by
  unfold xo_D_hours at hu
  by_cases h0 : v = 0
  · have hu := ifT h0 hu
    subst h0
    obtain ⟨r1, hv, hu⟩ := bdP hu
    cases hu
    rw [p_rfc (ad := ad) (b := 1400) (v := 0) (c2 := 1400) (by decide) (by decide)]
    refine cx_X1_328_X9_hours_p0 E hX hD hP hS hA (kxX9_hours_p0 l D G hD e_zI1062 e_zI2008 e_zI2012 e_zI2013 e_zI2027 e_zI2032 e_zL1061 e_aI1170 e_aI2037 e_aI2043 e_aL1141 e_aL1150 e_nN0 e_nN1 e_pR2 e_pR5 e_pR6 e_pW0 e_pW1 e_pW2 e_gG0 hv) ⟨rfl, rfl⟩ ⟨Nat.le_trans (Nat.le_of_ble_eq_true rfl) hR.1, Nat.le_trans (Nat.le_of_ble_eq_true rfl) hR.2⟩ hcs hsz hW hdg (fun H1 locs1 hP1 hS1 => kk H1 locs1 (hP1.to ?_) hS1)
    exact ((((((rfl).trans (aI_selfE (by rw [← e_aI1160] <;> rfl)).symm)).trans (aI_selfE (by rw [← e_aI1162] <;> rfl)).symm)).trans (aI_selfE (by rw [← e_aI1163] <;> rfl)).symm)
  have hu := ifF h0 hu
  by_cases h1 : v = 1
  · have hu := ifT h1 hu
    subst h1
    obtain ⟨r1, hv, hu⟩ := bdP hu
    cases hu
    rw [p_rfc (ad := ad) (b := 1400) (v := 1) (c2 := 1416) (by decide) (by decide)]
    refine cx_X1_328_X9_hours_p1 E hX hD hP hS hA (kxX9_hours_p1 l D G hD e_zI1082 e_zI2008 e_zI2012 e_zI2013 e_zI2027 e_zI2032 e_zL1081 e_aI1170 e_aI2037 e_aI2043 e_aL1141 e_aL1152 e_nN0 e_nN1 e_pR2 e_pR5 e_pR6 e_pW0 e_pW1 e_pW2 e_gG0 hv) ⟨rfl, rfl⟩ ⟨Nat.le_trans (Nat.le_of_ble_eq_true rfl) hR.1, Nat.le_trans (Nat.le_of_ble_eq_true rfl) hR.2⟩ hcs hsz hW hdg (fun H1 locs1 hP1 hS1 => kk H1 locs1 (hP1.to ?_) hS1)
    exact ((((((rfl).trans (aI_selfE (by rw [← e_aI1160] <;> rfl)).symm)).trans (aI_selfE (by rw [← e_aI1162] <;> rfl)).symm)).trans (aI_selfE (by rw [← e_aI1163] <;> rfl)).symm)
  have hu := ifF h1 hu
  by_cases h2 : v = 2
  · have hu := ifT h2 hu
    subst h2
    obtain ⟨r1, hv, hu⟩ := bdP hu
    cases hu
    rw [p_rfc (ad := ad) (b := 1400) (v := 2) (c2 := 1432) (by decide) (by decide)]
    refine cx_X1_328_X9_hours_p2 E hX hD hP hS hA (kxX9_hours_p2 l D G hD e_zI1092 e_zI1094 e_zI1095 e_zI2008 e_zI2012 e_zI2013 e_zI2027 e_zI2032 e_zL1091 e_aI1108 e_aI1170 e_aI2037 e_aI2043 e_aL1140 e_aL1141 e_aL1153 e_nN0 e_nN1 e_pR2 e_pR5 e_pR6 e_pW0 e_pW1 e_pW2 e_gG0 hv) ⟨rfl, rfl⟩ ⟨Nat.le_trans (Nat.le_of_ble_eq_true rfl) hR.1, Nat.le_trans (Nat.le_of_ble_eq_true rfl) hR.2⟩ hcs hsz hW hdg (fun H1 locs1 hP1 hS1 => kk H1 locs1 (hP1.to ?_) hS1)
    exact ((((((rfl).trans (aI_selfE (by rw [← e_aI1160] <;> rfl)).symm)).trans (aI_selfE (by rw [← e_aI1162] <;> rfl)).symm)).trans (aI_selfE (by rw [← e_aI1163] <;> rfl)).symm)
  have hu := ifF h2 hu
  by_cases h3 : v = 3
  · have hu := ifT h3 hu
    subst h3
    obtain ⟨⟨r1, faI1162⟩, hv, hu⟩ := bdP hu
    cases hu
    rw [p_rfc (ad := ad) (b := 1400) (v := 3) (c2 := 1448) (by decide) (by decide)]
    refine cx_X1_328_X9_hours_p3 E hX hD hP hS hA (kxX9_hours_p3 l D G hD e_zI2008 e_zI2012 e_zI2013 e_zI2027 e_zI2032 e_aI1162 e_aI1170 e_aI2037 e_aI2043 e_nN0 e_nN1 e_pR2 e_pR5 e_pR6 e_pW1 e_pW2 e_gG0 hv) ⟨rfl, rfl⟩ ⟨Nat.le_trans (Nat.le_of_ble_eq_true rfl) hR.1, Nat.le_trans (Nat.le_of_ble_eq_true rfl) hR.2⟩ hcs hsz hW hdg (fun H1 locs1 hP1 hS1 => kk H1 locs1 (hP1.to ?_) hS1)
    exact (((congrArg (fun z => aI z 1162 _) ((rfl).trans (aI_selfE (by rw [← e_aI1160] <;> rfl)).symm))).trans (aI_selfE (by rw [← e_aI1163] <;> rfl)).symm)
  have hu := ifF h3 hu
  by_cases h4 : v = 4
  · have hu := ifT h4 hu
    subst h4
    obtain ⟨⟨r1, faI1163⟩, hv, hu⟩ := bdP hu
    cases hu
    rw [p_rfc (ad := ad) (b := 1400) (v := 4) (c2 := 1464) (by decide) (by decide)]
    refine cx_X1_328_X9_hours_p4 E hX hD hP hS hA (kxX9_hours_p4 l D G hD e_zI2008 e_zI2012 e_zI2013 e_zI2027 e_zI2032 e_aI1163 e_aI1170 e_aI2037 e_aI2043 e_nN0 e_nN1 e_pR2 e_pR5 e_pR6 e_pW1 e_pW2 e_gG0 hv) ⟨rfl, rfl⟩ ⟨Nat.le_trans (Nat.le_of_ble_eq_true rfl) hR.1, Nat.le_trans (Nat.le_of_ble_eq_true rfl) hR.2⟩ hcs hsz hW hdg (fun H1 locs1 hP1 hS1 => kk H1 locs1 (hP1.to ?_) hS1)
    exact (congrArg (fun z => aI z 1163 _) ((((rfl).trans (aI_selfE (by rw [← e_aI1160] <;> rfl)).symm)).trans (aI_selfE (by rw [← e_aI1162] <;> rfl)).symm))
  have hu := ifF h4 hu
  by_cases h5 : v = 5
  · have hu := ifT h5 hu
    subst h5
    obtain ⟨⟨r1, faI1160⟩, hv, hu⟩ := bdP hu
    cases hu
    rw [p_rfc (ad := ad) (b := 1400) (v := 5) (c2 := 1480) (by decide) (by decide)]
    refine cx_X1_328_X9_hours_p5 E hX hD hP hS hA (kxX9_hours_p5 l D G hD e_zI1485 e_zI2008 e_zI2012 e_zI2013 e_zI2027 e_zI2032 e_aI1160 e_aI1164 e_aI1170 e_aI2037 e_aI2043 e_nN0 e_nN1 e_pR2 e_pR5 e_pR6 e_pW1 e_pW2 e_gG0 hv) ⟨rfl, rfl⟩ ⟨Nat.le_trans (Nat.le_of_ble_eq_true rfl) hR.1, Nat.le_trans (Nat.le_of_ble_eq_true rfl) hR.2⟩ hcs hsz hW hdg (fun H1 locs1 hP1 hS1 => kk H1 locs1 (hP1.to ?_) hS1)
    exact (((((congrArg (fun z => aI z 1160 _) rfl)).trans (aI_selfE (by rw [← e_aI1162] <;> rfl)).symm)).trans (aI_selfE (by rw [← e_aI1163] <;> rfl)).symm)
  have hu := ifF h5 hu
  by_cases h6 : v = 6
  · have hu := ifT h6 hu
    subst h6
    obtain ⟨r1, hv, hu⟩ := bdP hu
    cases hu
    rw [p_rfc (ad := ad) (b := 1400) (v := 6) (c2 := 1496) (by decide) (by decide)]
    refine cx_X1_328_X9_hours_p6 E hX hD hP hS hA (kxX9_hours_p6 l D G hD e_zI1262 e_zI2012 e_zI2013 e_zI2027 e_zI2032 e_aI1170 e_aI1265 e_aI2037 e_aI2043 e_nN0 e_nN1 e_nN2 e_pR2 e_pR5 e_pR6 e_pW1 e_pW2 e_pU0 e_pU1 e_pU2 e_pU3 e_gG0 hv) ⟨rfl, rfl⟩ ⟨Nat.le_trans (Nat.le_of_ble_eq_true rfl) hR.1, Nat.le_trans (Nat.le_of_ble_eq_true rfl) hR.2⟩ hcs hsz hW hdg (fun H1 locs1 hP1 hS1 => kk H1 locs1 (hP1.to ?_) hS1)
    exact ((((((rfl).trans (aI_selfE (by rw [← e_aI1160] <;> rfl)).symm)).trans (aI_selfE (by rw [← e_aI1162] <;> rfl)).symm)).trans (aI_selfE (by rw [← e_aI1163] <;> rfl)).symm)
  have hu := ifF h6 hu
  cases hu
/-! X1_hours (II)I -/
def sgX1_hours (σ : Sto) (w0 : Int32) (w1 : Int32) (w2 : Int32) (w3 : Int32) (w4 : Int32) (w5 : Int32) (w6 : Int32) (w7 : Int32) (w8 : Int64) (w9 : Nat → Int32) (w10 : Nat → Int32) (w11 : Nat → Int32) (w12 : Nat → Int32) (w13 : Nat → Int64) (w14 : Nat → Int64) (w15 : Nat → Int64) (w16 : Nat → Int64) (w17 : Nat → Int64) : Sto := aL (aL (aL (aL (aL (aI (aI (aI (aI (zL (zI (zI (zI (zI (zI (zI (zI (zI σ 1018 w0) 1019 w1) 1020 w2) 1062 w3) 1082 w4) 1092 w5) 1094 w6) 1095 w7) 1052 w8) 1108 w9) 1160 w10) 1162 w11) 1163 w12) 1140 w13) 1141 w14) 1150 w15) 1152 w16) 1153 w17
theorem sgX1_hours_self (σ : Sto) : sgX1_hours σ (σ.1 1018) (σ.1 1019) (σ.1 1020) (σ.1 1062) (σ.1 1082) (σ.1 1092) (σ.1 1094) (σ.1 1095) (σ.2.1 1052) (σ.2.2.1 1108) (σ.2.2.1 1160) (σ.2.2.1 1162) (σ.2.2.1 1163) (σ.2.2.2.1 1140) (σ.2.2.2.1 1141) (σ.2.2.2.1 1150) (σ.2.2.2.1 1152) (σ.2.2.2.1 1153) = σ := by
  unfold sgX1_hours
  simp only [zI_self, zL_self, aI_self, aL_self]
theorem sgX1_hours_zI1018 {σ : Sto} {w0 : Int32} {w1 : Int32} {w2 : Int32} {w3 : Int32} {w4 : Int32} {w5 : Int32} {w6 : Int32} {w7 : Int32} {w8 : Int64} {w9 : Nat → Int32} {w10 : Nat → Int32} {w11 : Nat → Int32} {w12 : Nat → Int32} {w13 : Nat → Int64} {w14 : Nat → Int64} {w15 : Nat → Int64} {w16 : Nat → Int64} {w17 : Nat → Int64} {g : Int32} : zI (sgX1_hours σ w0 w1 w2 w3 w4 w5 w6 w7 w8 w9 w10 w11 w12 w13 w14 w15 w16 w17) 1018 g = sgX1_hours σ g w1 w2 w3 w4 w5 w6 w7 w8 w9 w10 w11 w12 w13 w14 w15 w16 w17 := (cm_zI_aL _ _ _ _ _).trans (congrArg (fun z => aL z 1153 w17) ((cm_zI_aL _ _ _ _ _).trans (congrArg (fun z => aL z 1152 w16) ((cm_zI_aL _ _ _ _ _).trans (congrArg (fun z => aL z 1150 w15) ((cm_zI_aL _ _ _ _ _).trans (congrArg (fun z => aL z 1141 w14) ((cm_zI_aL _ _ _ _ _).trans (congrArg (fun z => aL z 1140 w13) ((cm_zI_aI _ _ _ _ _).trans (congrArg (fun z => aI z 1163 w12) ((cm_zI_aI _ _ _ _ _).trans (congrArg (fun z => aI z 1162 w11) ((cm_zI_aI _ _ _ _ _).trans (congrArg (fun z => aI z 1160 w10) ((cm_zI_aI _ _ _ _ _).trans (congrArg (fun z => aI z 1108 w9) ((cm_zI_zL _ _ _ _ _).trans (congrArg (fun z => zL z 1052 w8) ((zI_comm _ (by decide) _ _).trans (congrArg (fun z => zI z 1095 w7) ((zI_comm _ (by decide) _ _).trans (congrArg (fun z => zI z 1094 w6) ((zI_comm _ (by decide) _ _).trans (congrArg (fun z => zI z 1092 w5) ((zI_comm _ (by decide) _ _).trans (congrArg (fun z => zI z 1082 w4) ((zI_comm _ (by decide) _ _).trans (congrArg (fun z => zI z 1062 w3) ((zI_comm _ (by decide) _ _).trans (congrArg (fun z => zI z 1020 w2) ((zI_comm _ (by decide) _ _).trans (congrArg (fun z => zI z 1019 w1) (zI_zI _ 1018 _ _))))))))))))))))))))))))))))))))))
theorem sgX1_hours_zI1019 {σ : Sto} {w0 : Int32} {w1 : Int32} {w2 : Int32} {w3 : Int32} {w4 : Int32} {w5 : Int32} {w6 : Int32} {w7 : Int32} {w8 : Int64} {w9 : Nat → Int32} {w10 : Nat → Int32} {w11 : Nat → Int32} {w12 : Nat → Int32} {w13 : Nat → Int64} {w14 : Nat → Int64} {w15 : Nat → Int64} {w16 : Nat → Int64} {w17 : Nat → Int64} {g : Int32} : zI (sgX1_hours σ w0 w1 w2 w3 w4 w5 w6 w7 w8 w9 w10 w11 w12 w13 w14 w15 w16 w17) 1019 g = sgX1_hours σ w0 g w2 w3 w4 w5 w6 w7 w8 w9 w10 w11 w12 w13 w14 w15 w16 w17 := (cm_zI_aL _ _ _ _ _).trans (congrArg (fun z => aL z 1153 w17) ((cm_zI_aL _ _ _ _ _).trans (congrArg (fun z => aL z 1152 w16) ((cm_zI_aL _ _ _ _ _).trans (congrArg (fun z => aL z 1150 w15) ((cm_zI_aL _ _ _ _ _).trans (congrArg (fun z => aL z 1141 w14) ((cm_zI_aL _ _ _ _ _).trans (congrArg (fun z => aL z 1140 w13) ((cm_zI_aI _ _ _ _ _).trans (congrArg (fun z => aI z 1163 w12) ((cm_zI_aI _ _ _ _ _).trans (congrArg (fun z => aI z 1162 w11) ((cm_zI_aI _ _ _ _ _).trans (congrArg (fun z => aI z 1160 w10) ((cm_zI_aI _ _ _ _ _).trans (congrArg (fun z => aI z 1108 w9) ((cm_zI_zL _ _ _ _ _).trans (congrArg (fun z => zL z 1052 w8) ((zI_comm _ (by decide) _ _).trans (congrArg (fun z => zI z 1095 w7) ((zI_comm _ (by decide) _ _).trans (congrArg (fun z => zI z 1094 w6) ((zI_comm _ (by decide) _ _).trans (congrArg (fun z => zI z 1092 w5) ((zI_comm _ (by decide) _ _).trans (congrArg (fun z => zI z 1082 w4) ((zI_comm _ (by decide) _ _).trans (congrArg (fun z => zI z 1062 w3) ((zI_comm _ (by decide) _ _).trans (congrArg (fun z => zI z 1020 w2) (zI_zI _ 1019 _ _))))))))))))))))))))))))))))))))
theorem sgX1_hours_zI1020 {σ : Sto} {w0 : Int32} {w1 : Int32} {w2 : Int32} {w3 : Int32} {w4 : Int32} {w5 : Int32} {w6 : Int32} {w7 : Int32} {w8 : Int64} {w9 : Nat → Int32} {w10 : Nat → Int32} {w11 : Nat → Int32} {w12 : Nat → Int32} {w13 : Nat → Int64} {w14 : Nat → Int64} {w15 : Nat → Int64} {w16 : Nat → Int64} {w17 : Nat → Int64} {g : Int32} : zI (sgX1_hours σ w0 w1 w2 w3 w4 w5 w6 w7 w8 w9 w10 w11 w12 w13 w14 w15 w16 w17) 1020 g = sgX1_hours σ w0 w1 g w3 w4 w5 w6 w7 w8 w9 w10 w11 w12 w13 w14 w15 w16 w17 := (cm_zI_aL _ _ _ _ _).trans (congrArg (fun z => aL z 1153 w17) ((cm_zI_aL _ _ _ _ _).trans (congrArg (fun z => aL z 1152 w16) ((cm_zI_aL _ _ _ _ _).trans (congrArg (fun z => aL z 1150 w15) ((cm_zI_aL _ _ _ _ _).trans (congrArg (fun z => aL z 1141 w14) ((cm_zI_aL _ _ _ _ _).trans (congrArg (fun z => aL z 1140 w13) ((cm_zI_aI _ _ _ _ _).trans (congrArg (fun z => aI z 1163 w12) ((cm_zI_aI _ _ _ _ _).trans (congrArg (fun z => aI z 1162 w11) ((cm_zI_aI _ _ _ _ _).trans (congrArg (fun z => aI z 1160 w10) ((cm_zI_aI _ _ _ _ _).trans (congrArg (fun z => aI z 1108 w9) ((cm_zI_zL _ _ _ _ _).trans (congrArg (fun z => zL z 1052 w8) ((zI_comm _ (by decide) _ _).trans (congrArg (fun z => zI z 1095 w7) ((zI_comm _ (by decide) _ _).trans (congrArg (fun z => zI z 1094 w6) ((zI_comm _ (by decide) _ _).trans (congrArg (fun z => zI z 1092 w5) ((zI_comm _ (by decide) _ _).trans (congrArg (fun z => zI z 1082 w4) ((zI_comm _ (by decide) _ _).trans (congrArg (fun z => zI z 1062 w3) (zI_zI _ 1020 _ _))))))))))))))))))))))))))))))
theorem sgX1_hours_zI1062 {σ : Sto} {w0 : Int32} {w1 : Int32} {w2 : Int32} {w3 : Int32} {w4 : Int32} {w5 : Int32} {w6 : Int32} {w7 : Int32} {w8 : Int64} {w9 : Nat → Int32} {w10 : Nat → Int32} {w11 : Nat → Int32} {w12 : Nat → Int32} {w13 : Nat → Int64} {w14 : Nat → Int64} {w15 : Nat → Int64} {w16 : Nat → Int64} {w17 : Nat → Int64} {g : Int32} : zI (sgX1_hours σ w0 w1 w2 w3 w4 w5 w6 w7 w8 w9 w10 w11 w12 w13 w14 w15 w16 w17) 1062 g = sgX1_hours σ w0 w1 w2 g w4 w5 w6 w7 w8 w9 w10 w11 w12 w13 w14 w15 w16 w17 := (cm_zI_aL _ _ _ _ _).trans (congrArg (fun z => aL z 1153 w17) ((cm_zI_aL _ _ _ _ _).trans (congrArg (fun z => aL z 1152 w16) ((cm_zI_aL _ _ _ _ _).trans (congrArg (fun z => aL z 1150 w15) ((cm_zI_aL _ _ _ _ _).trans (congrArg (fun z => aL z 1141 w14) ((cm_zI_aL _ _ _ _ _).trans (congrArg (fun z => aL z 1140 w13) ((cm_zI_aI _ _ _ _ _).trans (congrArg (fun z => aI z 1163 w12) ((cm_zI_aI _ _ _ _ _).trans (congrArg (fun z => aI z 1162 w11) ((cm_zI_aI _ _ _ _ _).trans (congrArg (fun z => aI z 1160 w10) ((cm_zI_aI _ _ _ _ _).trans (congrArg (fun z => aI z 1108 w9) ((cm_zI_zL _ _ _ _ _).trans (congrArg (fun z => zL z 1052 w8) ((zI_comm _ (by decide) _ _).trans (congrArg (fun z => zI z 1095 w7) ((zI_comm _ (by decide) _ _).trans (congrArg (fun z => zI z 1094 w6) ((zI_comm _ (by decide) _ _).trans (congrArg (fun z => zI z 1092 w5) ((zI_comm _ (by decide) _ _).trans (congrArg (fun z => zI z 1082 w4) (zI_zI _ 1062 _ _))))))))))))))))))))))))))))
theorem sgX1_hours_zI1082 {σ : Sto} {w0 : Int32} {w1 : Int32} {w2 : Int32} {w3 : Int32} {w4 : Int32} {w5 : Int32} {w6 : Int32} {w7 : Int32} {w8 : Int64} {w9 : Nat → Int32} {w10 : Nat → Int32} {w11 : Nat → Int32} {w12 : Nat → Int32} {w13 : Nat → Int64} {w14 : Nat → Int64} {w15 : Nat → Int64} {w16 : Nat → Int64} {w17 : Nat → Int64} {g : Int32} : zI (sgX1_hours σ w0 w1 w2 w3 w4 w5 w6 w7 w8 w9 w10 w11 w12 w13 w14 w15 w16 w17) 1082 g = sgX1_hours σ w0 w1 w2 w3 g w5 w6 w7 w8 w9 w10 w11 w12 w13 w14 w15 w16 w17 := (cm_zI_aL _ _ _ _ _).trans (congrArg (fun z => aL z 1153 w17) ((cm_zI_aL _ _ _ _ _).trans (congrArg (fun z => aL z 1152 w16) ((cm_zI_aL _ _ _ _ _).trans (congrArg (fun z => aL z 1150 w15) ((cm_zI_aL _ _ _ _ _).trans (congrArg (fun z => aL z 1141 w14) ((cm_zI_aL _ _ _ _ _).trans (congrArg (fun z => aL z 1140 w13) ((cm_zI_aI _ _ _ _ _).trans (congrArg (fun z => aI z 1163 w12) ((cm_zI_aI _ _ _ _ _).trans (congrArg (fun z => aI z 1162 w11) ((cm_zI_aI _ _ _ _ _).trans (congrArg (fun z => aI z 1160 w10) ((cm_zI_aI _ _ _ _ _).trans (congrArg (fun z => aI z 1108 w9) ((cm_zI_zL _ _ _ _ _).trans (congrArg (fun z => zL z 1052 w8) ((zI_comm _ (by decide) _ _).trans (congrArg (fun z => zI z 1095 w7) ((zI_comm _ (by decide) _ _).trans (congrArg (fun z => zI z 1094 w6) ((zI_comm _ (by decide) _ _).trans (congrArg (fun z => zI z 1092 w5) (zI_zI _ 1082 _ _))))))))))))))))))))))))))
theorem sgX1_hours_zI1092 {σ : Sto} {w0 : Int32} {w1 : Int32} {w2 : Int32} {w3 : Int32} {w4 : Int32} {w5 : Int32} {w6 : Int32} {w7 : Int32} {w8 : Int64} {w9 : Nat → Int32} {w10 : Nat → Int32} {w11 : Nat → Int32} {w12 : Nat → Int32} {w13 : Nat → Int64} {w14 : Nat → Int64} {w15 : Nat → Int64} {w16 : Nat → Int64} {w17 : Nat → Int64} {g : Int32} : zI (sgX1_hours σ w0 w1 w2 w3 w4 w5 w6 w7 w8 w9 w10 w11 w12 w13 w14 w15 w16 w17) 1092 g = sgX1_hours σ w0 w1 w2 w3 w4 g w6 w7 w8 w9 w10 w11 w12 w13 w14 w15 w16 w17 := (cm_zI_aL _ _ _ _ _).trans (congrArg (fun z => aL z 1153 w17) ((cm_zI_aL _ _ _ _ _).trans (congrArg (fun z => aL z 1152 w16) ((cm_zI_aL _ _ _ _ _).trans (congrArg (fun z => aL z 1150 w15) ((cm_zI_aL _ _ _ _ _).trans (congrArg (fun z => aL z 1141 w14) ((cm_zI_aL _ _ _ _ _).trans (congrArg (fun z => aL z 1140 w13) ((cm_zI_aI _ _ _ _ _).trans (congrArg (fun z => aI z 1163 w12) ((cm_zI_aI _ _ _ _ _).trans (congrArg (fun z => aI z 1162 w11) ((cm_zI_aI _ _ _ _ _).trans (congrArg (fun z => aI z 1160 w10) ((cm_zI_aI _ _ _ _ _).trans (congrArg (fun z => aI z 1108 w9) ((cm_zI_zL _ _ _ _ _).trans (congrArg (fun z => zL z 1052 w8) ((zI_comm _ (by decide) _ _).trans (congrArg (fun z => zI z 1095 w7) ((zI_comm _ (by decide) _ _).trans (congrArg (fun z => zI z 1094 w6) (zI_zI _ 1092 _ _))))))))))))))))))))))))
theorem sgX1_hours_zI1094 {σ : Sto} {w0 : Int32} {w1 : Int32} {w2 : Int32} {w3 : Int32} {w4 : Int32} {w5 : Int32} {w6 : Int32} {w7 : Int32} {w8 : Int64} {w9 : Nat → Int32} {w10 : Nat → Int32} {w11 : Nat → Int32} {w12 : Nat → Int32} {w13 : Nat → Int64} {w14 : Nat → Int64} {w15 : Nat → Int64} {w16 : Nat → Int64} {w17 : Nat → Int64} {g : Int32} : zI (sgX1_hours σ w0 w1 w2 w3 w4 w5 w6 w7 w8 w9 w10 w11 w12 w13 w14 w15 w16 w17) 1094 g = sgX1_hours σ w0 w1 w2 w3 w4 w5 g w7 w8 w9 w10 w11 w12 w13 w14 w15 w16 w17 := (cm_zI_aL _ _ _ _ _).trans (congrArg (fun z => aL z 1153 w17) ((cm_zI_aL _ _ _ _ _).trans (congrArg (fun z => aL z 1152 w16) ((cm_zI_aL _ _ _ _ _).trans (congrArg (fun z => aL z 1150 w15) ((cm_zI_aL _ _ _ _ _).trans (congrArg (fun z => aL z 1141 w14) ((cm_zI_aL _ _ _ _ _).trans (congrArg (fun z => aL z 1140 w13) ((cm_zI_aI _ _ _ _ _).trans (congrArg (fun z => aI z 1163 w12) ((cm_zI_aI _ _ _ _ _).trans (congrArg (fun z => aI z 1162 w11) ((cm_zI_aI _ _ _ _ _).trans (congrArg (fun z => aI z 1160 w10) ((cm_zI_aI _ _ _ _ _).trans (congrArg (fun z => aI z 1108 w9) ((cm_zI_zL _ _ _ _ _).trans (congrArg (fun z => zL z 1052 w8) ((zI_comm _ (by decide) _ _).trans (congrArg (fun z => zI z 1095 w7) (zI_zI _ 1094 _ _))))))))))))))))))))))
theorem sgX1_hours_zI1095 {σ : Sto} {w0 : Int32} {w1 : Int32} {w2 : Int32} {w3 : Int32} {w4 : Int32} {w5 : Int32} {w6 : Int32} {w7 : Int32} {w8 : Int64} {w9 : Nat → Int32} {w10 : Nat → Int32} {w11 : Nat → Int32} {w12 : Nat → Int32} {w13 : Nat → Int64} {w14 : Nat → Int64} {w15 : Nat → Int64} {w16 : Nat → Int64} {w17 : Nat → Int64} {g : Int32} : zI (sgX1_hours σ w0 w1 w2 w3 w4 w5 w6 w7 w8 w9 w10 w11 w12 w13 w14 w15 w16 w17) 1095 g = sgX1_hours σ w0 w1 w2 w3 w4 w5 w6 g w8 w9 w10 w11 w12 w13 w14 w15 w16 w17 := (cm_zI_aL _ _ _ _ _).trans (congrArg (fun z => aL z 1153 w17) ((cm_zI_aL _ _ _ _ _).trans (congrArg (fun z => aL z 1152 w16) ((cm_zI_aL _ _ _ _ _).trans (congrArg (fun z => aL z 1150 w15) ((cm_zI_aL _ _ _ _ _).trans (congrArg (fun z => aL z 1141 w14) ((cm_zI_aL _ _ _ _ _).trans (congrArg (fun z => aL z 1140 w13) ((cm_zI_aI _ _ _ _ _).trans (congrArg (fun z => aI z 1163 w12) ((cm_zI_aI _ _ _ _ _).trans (congrArg (fun z => aI z 1162 w11) ((cm_zI_aI _ _ _ _ _).trans (congrArg (fun z => aI z 1160 w10) ((cm_zI_aI _ _ _ _ _).trans (congrArg (fun z => aI z 1108 w9) ((cm_zI_zL _ _ _ _ _).trans (congrArg (fun z => zL z 1052 w8) (zI_zI _ 1095 _ _))))))))))))))))))))
theorem sgX1_hours_zL1052 {σ : Sto} {w0 : Int32} {w1 : Int32} {w2 : Int32} {w3 : Int32} {w4 : Int32} {w5 : Int32} {w6 : Int32} {w7 : Int32} {w8 : Int64} {w9 : Nat → Int32} {w10 : Nat → Int32} {w11 : Nat → Int32} {w12 : Nat → Int32} {w13 : Nat → Int64} {w14 : Nat → Int64} {w15 : Nat → Int64} {w16 : Nat → Int64} {w17 : Nat → Int64} {g : Int64} : zL (sgX1_hours σ w0 w1 w2 w3 w4 w5 w6 w7 w8 w9 w10 w11 w12 w13 w14 w15 w16 w17) 1052 g = sgX1_hours σ w0 w1 w2 w3 w4 w5 w6 w7 g w9 w10 w11 w12 w13 w14 w15 w16 w17 := (cm_zL_aL _ _ _ _ _).trans (congrArg (fun z => aL z 1153 w17) ((cm_zL_aL _ _ _ _ _).trans (congrArg (fun z => aL z 1152 w16) ((cm_zL_aL _ _ _ _ _).trans (congrArg (fun z => aL z 1150 w15) ((cm_zL_aL _ _ _ _ _).trans (congrArg (fun z => aL z 1141 w14) ((cm_zL_aL _ _ _ _ _).trans (congrArg (fun z => aL z 1140 w13) ((cm_zL_aI _ _ _ _ _).trans (congrArg (fun z => aI z 1163 w12) ((cm_zL_aI _ _ _ _ _).trans (congrArg (fun z => aI z 1162 w11) ((cm_zL_aI _ _ _ _ _).trans (congrArg (fun z => aI z 1160 w10) ((cm_zL_aI _ _ _ _ _).trans (congrArg (fun z => aI z 1108 w9) (zL_zL _ 1052 _ _))))))))))))))))))
theorem sgX1_hours_aI1108 {σ : Sto} {w0 : Int32} {w1 : Int32} {w2 : Int32} {w3 : Int32} {w4 : Int32} {w5 : Int32} {w6 : Int32} {w7 : Int32} {w8 : Int64} {w9 : Nat → Int32} {w10 : Nat → Int32} {w11 : Nat → Int32} {w12 : Nat → Int32} {w13 : Nat → Int64} {w14 : Nat → Int64} {w15 : Nat → Int64} {w16 : Nat → Int64} {w17 : Nat → Int64} {g : Nat → Int32} : aI (sgX1_hours σ w0 w1 w2 w3 w4 w5 w6 w7 w8 w9 w10 w11 w12 w13 w14 w15 w16 w17) 1108 g = sgX1_hours σ w0 w1 w2 w3 w4 w5 w6 w7 w8 g w10 w11 w12 w13 w14 w15 w16 w17 := (cm_aI_aL _ _ _ _ _).trans (congrArg (fun z => aL z 1153 w17) ((cm_aI_aL _ _ _ _ _).trans (congrArg (fun z => aL z 1152 w16) ((cm_aI_aL _ _ _ _ _).trans (congrArg (fun z => aL z 1150 w15) ((cm_aI_aL _ _ _ _ _).trans (congrArg (fun z => aL z 1141 w14) ((cm_aI_aL _ _ _ _ _).trans (congrArg (fun z => aL z 1140 w13) ((aI_comm _ (by decide) _ _).trans (congrArg (fun z => aI z 1163 w12) ((aI_comm _ (by decide) _ _).trans (congrArg (fun z => aI z 1162 w11) ((aI_comm _ (by decide) _ _).trans (congrArg (fun z => aI z 1160 w10) (aI_aI _ 1108 _ _))))))))))))))))
theorem sgX1_hours_aI1160 {σ : Sto} {w0 : Int32} {w1 : Int32} {w2 : Int32} {w3 : Int32} {w4 : Int32} {w5 : Int32} {w6 : Int32} {w7 : Int32} {w8 : Int64} {w9 : Nat → Int32} {w10 : Nat → Int32} {w11 : Nat → Int32} {w12 : Nat → Int32} {w13 : Nat → Int64} {w14 : Nat → Int64} {w15 : Nat → Int64} {w16 : Nat → Int64} {w17 : Nat → Int64} {g : Nat → Int32} : aI (sgX1_hours σ w0 w1 w2 w3 w4 w5 w6 w7 w8 w9 w10 w11 w12 w13 w14 w15 w16 w17) 1160 g = sgX1_hours σ w0 w1 w2 w3 w4 w5 w6 w7 w8 w9 g w11 w12 w13 w14 w15 w16 w17 := (cm_aI_aL _ _ _ _ _).trans (congrArg (fun z => aL z 1153 w17) ((cm_aI_aL _ _ _ _ _).trans (congrArg (fun z => aL z 1152 w16) ((cm_aI_aL _ _ _ _ _).trans (congrArg (fun z => aL z 1150 w15) ((cm_aI_aL _ _ _ _ _).trans (congrArg (fun z => aL z 1141 w14) ((cm_aI_aL _ _ _ _ _).trans (congrArg (fun z => aL z 1140 w13) ((aI_comm _ (by decide) _ _).trans (congrArg (fun z => aI z 1163 w12) ((aI_comm _ (by decide) _ _).trans (congrArg (fun z => aI z 1162 w11) (aI_aI _ 1160 _ _))))))))))))))
theorem sgX1_hours_aI1162 {σ : Sto} {w0 : Int32} {w1 : Int32} {w2 : Int32} {w3 : Int32} {w4 : Int32} {w5 : Int32} {w6 : Int32} {w7 : Int32} {w8 : Int64} {w9 : Nat → Int32} {w10 : Nat → Int32} {w11 : Nat → Int32} {w12 : Nat → Int32} {w13 : Nat → Int64} {w14 : Nat → Int64} {w15 : Nat → Int64} {w16 : Nat → Int64} {w17 : Nat → Int64} {g : Nat → Int32} : aI (sgX1_hours σ w0 w1 w2 w3 w4 w5 w6 w7 w8 w9 w10 w11 w12 w13 w14 w15 w16 w17) 1162 g = sgX1_hours σ w0 w1 w2 w3 w4 w5 w6 w7 w8 w9 w10 g w12 w13 w14 w15 w16 w17 := (cm_aI_aL _ _ _ _ _).trans (congrArg (fun z => aL z 1153 w17) ((cm_aI_aL _ _ _ _ _).trans (congrArg (fun z => aL z 1152 w16) ((cm_aI_aL _ _ _ _ _).trans (congrArg (fun z => aL z 1150 w15) ((cm_aI_aL _ _ _ _ _).trans (congrArg (fun z => aL z 1141 w14) ((cm_aI_aL _ _ _ _ _).trans (congrArg (fun z => aL z 1140 w13) ((aI_comm _ (by decide) _ _).trans (congrArg (fun z => aI z 1163 w12) (aI_aI _ 1162 _ _))))))))))))
theorem sgX1_hours_aI1163 {σ : Sto} {w0 : Int32} {w1 : Int32} {w2 : Int32} {w3 : Int32} {w4 : Int32} {w5 : Int32} {w6 : Int32} {w7 : Int32} {w8 : Int64} {w9 : Nat → Int32} {w10 : Nat → Int32} {w11 : Nat → Int32} {w12 : Nat → Int32} {w13 : Nat → Int64} {w14 : Nat → Int64} {w15 : Nat → Int64} {w16 : Nat → Int64} {w17 : Nat → Int64} {g : Nat → Int32} : aI (sgX1_hours σ w0 w1 w2 w3 w4 w5 w6 w7 w8 w9 w10 w11 w12 w13 w14 w15 w16 w17) 1163 g = sgX1_hours σ w0 w1 w2 w3 w4 w5 w6 w7 w8 w9 w10 w11 g w13 w14 w15 w16 w17 := (cm_aI_aL _ _ _ _ _).trans (congrArg (fun z => aL z 1153 w17) ((cm_aI_aL _ _ _ _ _).trans (congrArg (fun z => aL z 1152 w16) ((cm_aI_aL _ _ _ _ _).trans (congrArg (fun z => aL z 1150 w15) ((cm_aI_aL _ _ _ _ _).trans (congrArg (fun z => aL z 1141 w14) ((cm_aI_aL _ _ _ _ _).trans (congrArg (fun z => aL z 1140 w13) (aI_aI _ 1163 _ _))))))))))
theorem sgX1_hours_aL1140 {σ : Sto} {w0 : Int32} {w1 : Int32} {w2 : Int32} {w3 : Int32} {w4 : Int32} {w5 : Int32} {w6 : Int32} {w7 : Int32} {w8 : Int64} {w9 : Nat → Int32} {w10 : Nat → Int32} {w11 : Nat → Int32} {w12 : Nat → Int32} {w13 : Nat → Int64} {w14 : Nat → Int64} {w15 : Nat → Int64} {w16 : Nat → Int64} {w17 : Nat → Int64} {g : Nat → Int64} : aL (sgX1_hours σ w0 w1 w2 w3 w4 w5 w6 w7 w8 w9 w10 w11 w12 w13 w14 w15 w16 w17) 1140 g = sgX1_hours σ w0 w1 w2 w3 w4 w5 w6 w7 w8 w9 w10 w11 w12 g w14 w15 w16 w17 := (aL_comm _ (by decide) _ _).trans (congrArg (fun z => aL z 1153 w17) ((aL_comm _ (by decide) _ _).trans (congrArg (fun z => aL z 1152 w16) ((aL_comm _ (by decide) _ _).trans (congrArg (fun z => aL z 1150 w15) ((aL_comm _ (by decide) _ _).trans (congrArg (fun z => aL z 1141 w14) (aL_aL _ 1140 _ _))))))))
theorem sgX1_hours_aL1141 {σ : Sto} {w0 : Int32} {w1 : Int32} {w2 : Int32} {w3 : Int32} {w4 : Int32} {w5 : Int32} {w6 : Int32} {w7 : Int32} {w8 : Int64} {w9 : Nat → Int32} {w10 : Nat → Int32} {w11 : Nat → Int32} {w12 : Nat → Int32} {w13 : Nat → Int64} {w14 : Nat → Int64} {w15 : Nat → Int64} {w16 : Nat → Int64} {w17 : Nat → Int64} {g : Nat → Int64} : aL (sgX1_hours σ w0 w1 w2 w3 w4 w5 w6 w7 w8 w9 w10 w11 w12 w13 w14 w15 w16 w17) 1141 g = sgX1_hours σ w0 w1 w2 w3 w4 w5 w6 w7 w8 w9 w10 w11 w12 w13 g w15 w16 w17 := (aL_comm _ (by decide) _ _).trans (congrArg (fun z => aL z 1153 w17) ((aL_comm _ (by decide) _ _).trans (congrArg (fun z => aL z 1152 w16) ((aL_comm _ (by decide) _ _).trans (congrArg (fun z => aL z 1150 w15) (aL_aL _ 1141 _ _))))))
theorem sgX1_hours_aL1150 {σ : Sto} {w0 : Int32} {w1 : Int32} {w2 : Int32} {w3 : Int32} {w4 : Int32} {w5 : Int32} {w6 : Int32} {w7 : Int32} {w8 : Int64} {w9 : Nat → Int32} {w10 : Nat → Int32} {w11 : Nat → Int32} {w12 : Nat → Int32} {w13 : Nat → Int64} {w14 : Nat → Int64} {w15 : Nat → Int64} {w16 : Nat → Int64} {w17 : Nat → Int64} {g : Nat → Int64} : aL (sgX1_hours σ w0 w1 w2 w3 w4 w5 w6 w7 w8 w9 w10 w11 w12 w13 w14 w15 w16 w17) 1150 g = sgX1_hours σ w0 w1 w2 w3 w4 w5 w6 w7 w8 w9 w10 w11 w12 w13 w14 g w16 w17 := (aL_comm _ (by decide) _ _).trans (congrArg (fun z => aL z 1153 w17) ((aL_comm _ (by decide) _ _).trans (congrArg (fun z => aL z 1152 w16) (aL_aL _ 1150 _ _))))
theorem sgX1_hours_aL1152 {σ : Sto} {w0 : Int32} {w1 : Int32} {w2 : Int32} {w3 : Int32} {w4 : Int32} {w5 : Int32} {w6 : Int32} {w7 : Int32} {w8 : Int64} {w9 : Nat → Int32} {w10 : Nat → Int32} {w11 : Nat → Int32} {w12 : Nat → Int32} {w13 : Nat → Int64} {w14 : Nat → Int64} {w15 : Nat → Int64} {w16 : Nat → Int64} {w17 : Nat → Int64} {g : Nat → Int64} : aL (sgX1_hours σ w0 w1 w2 w3 w4 w5 w6 w7 w8 w9 w10 w11 w12 w13 w14 w15 w16 w17) 1152 g = sgX1_hours σ w0 w1 w2 w3 w4 w5 w6 w7 w8 w9 w10 w11 w12 w13 w14 w15 g w17 := (aL_comm _ (by decide) _ _).trans (congrArg (fun z => aL z 1153 w17) (aL_aL _ 1152 _ _))
theorem sgX1_hours_aL1153 {σ : Sto} {w0 : Int32} {w1 : Int32} {w2 : Int32} {w3 : Int32} {w4 : Int32} {w5 : Int32} {w6 : Int32} {w7 : Int32} {w8 : Int64} {w9 : Nat → Int32} {w10 : Nat → Int32} {w11 : Nat → Int32} {w12 : Nat → Int32} {w13 : Nat → Int64} {w14 : Nat → Int64} {w15 : Nat → Int64} {w16 : Nat → Int64} {w17 : Nat → Int64} {g : Nat → Int64} : aL (sgX1_hours σ w0 w1 w2 w3 w4 w5 w6 w7 w8 w9 w10 w11 w12 w13 w14 w15 w16 w17) 1153 g = sgX1_hours σ w0 w1 w2 w3 w4 w5 w6 w7 w8 w9 w10 w11 w12 w13 w14 w15 w16 g := aL_aL _ 1153 _ _
theorem sgX1_hours_rzI1018 {σ : Sto} {w0 : Int32} {w1 : Int32} {w2 : Int32} {w3 : Int32} {w4 : Int32} {w5 : Int32} {w6 : Int32} {w7 : Int32} {w8 : Int64} {w9 : Nat → Int32} {w10 : Nat → Int32} {w11 : Nat → Int32} {w12 : Nat → Int32} {w13 : Nat → Int64} {w14 : Nat → Int64} {w15 : Nat → Int64} {w16 : Nat → Int64} {w17 : Nat → Int64} : (sgX1_hours σ w0 w1 w2 w3 w4 w5 w6 w7 w8 w9 w10 w11 w12 w13 w14 w15 w16 w17).1 1018 = w0 := rfl
theorem sgX1_hours_rzI1019 {σ : Sto} {w0 : Int32} {w1 : Int32} {w2 : Int32} {w3 : Int32} {w4 : Int32} {w5 : Int32} {w6 : Int32} {w7 : Int32} {w8 : Int64} {w9 : Nat → Int32} {w10 : Nat → Int32} {w11 : Nat → Int32} {w12 : Nat → Int32} {w13 : Nat → Int64} {w14 : Nat → Int64} {w15 : Nat → Int64} {w16 : Nat → Int64} {w17 : Nat → Int64} : (sgX1_hours σ w0 w1 w2 w3 w4 w5 w6 w7 w8 w9 w10 w11 w12 w13 w14 w15 w16 w17).1 1019 = w1 := rfl
theorem sgX1_hours_rzI1020 {σ : Sto} {w0 : Int32} {w1 : Int32} {w2 : Int32} {w3 : Int32} {w4 : Int32} {w5 : Int32} {w6 : Int32} {w7 : Int32} {w8 : Int64} {w9 : Nat → Int32} {w10 : Nat → Int32} {w11 : Nat → Int32} {w12 : Nat → Int32} {w13 : Nat → Int64} {w14 : Nat → Int64} {w15 : Nat → Int64} {w16 : Nat → Int64} {w17 : Nat → Int64} : (sgX1_hours σ w0 w1 w2 w3 w4 w5 w6 w7 w8 w9 w10 w11 w12 w13 w14 w15 w16 w17).1 1020 = w2 := rfl
theorem sgX1_hours_rzI1062 {σ : Sto} {w0 : Int32} {w1 : Int32} {w2 : Int32} {w3 : Int32} {w4 : Int32} {w5 : Int32} {w6 : Int32} {w7 : Int32} {w8 : Int64} {w9 : Nat → Int32} {w10 : Nat → Int32} {w11 : Nat → Int32} {w12 : Nat → Int32} {w13 : Nat → Int64} {w14 : Nat → Int64} {w15 : Nat → Int64} {w16 : Nat → Int64} {w17 : Nat → Int64} : (sgX1_hours σ w0 w1 w2 w3 w4 w5 w6 w7 w8 w9 w10 w11 w12 w13 w14 w15 w16 w17).1 1062 = w3 := rfl
theorem sgX1_hours_rzI1082 {σ : Sto} {w0 : Int32} {w1 : Int32} {w2 : Int32} {w3 : Int32} {w4 : Int32} {w5 : Int32} {w6 : Int32} {w7 : Int32} {w8 : Int64} {w9 : Nat → Int32} {w10 : Nat → Int32} {w11 : Nat → Int32} {w12 : Nat → Int32} {w13 : Nat → Int64} {w14 : Nat → Int64} {w15 : Nat → Int64} {w16 : Nat → Int64} {w17 : Nat → Int64} : (sgX1_hours σ w0 w1 w2 w3 w4 w5 w6 w7 w8 w9 w10 w11 w12 w13 w14 w15 w16 w17).1 1082 = w4 := rfl
theorem sgX1_hours_rzI1092 {σ : Sto} {w0 : Int32} {w1 : Int32} {w2 : Int32} {w3 : Int32} {w4 : Int32} {w5 : Int32} {w6 : Int32} {w7 : Int32} {w8 : Int64} {w9 : Nat → Int32} {w10 : Nat → Int32} {w11 : Nat → Int32} {w12 : Nat → Int32} {w13 : Nat → Int64} {w14 : Nat → Int64} {w15 : Nat → Int64} {w16 : Nat → Int64} {w17 : Nat → Int64} : (sgX1_hours σ w0 w1 w2 w3 w4 w5 w6 w7 w8 w9 w10 w11 w12 w13 w14 w15 w16 w17).1 1092 = w5 := rfl
theorem sgX1_hours_rzI1094 {σ : Sto} {w0 : Int32} {w1 : Int32} {w2 : Int32} {w3 : Int32} {w4 : Int32} {w5 : Int32} {w6 : Int32} {w7 : Int32} {w8 : Int64} {w9 : Nat → Int32} {w10 : Nat → Int32} {w11 : Nat → Int32} {w12 : Nat → Int32} {w13 : Nat → Int64} {w14 : Nat → Int64} {w15 : Nat → Int64} {w16 : Nat → Int64} {w17 : Nat → Int64} : (sgX1_hours σ w0 w1 w2 w3 w4 w5 w6 w7 w8 w9 w10 w11 w12 w13 w14 w15 w16 w17).1 1094 = w6 := rfl
theorem sgX1_hours_rzI1095 {σ : Sto} {w0 : Int32} {w1 : Int32} {w2 : Int32} {w3 : Int32} {w4 : Int32} {w5 : Int32} {w6 : Int32} {w7 : Int32} {w8 : Int64} {w9 : Nat → Int32} {w10 : Nat → Int32} {w11 : Nat → Int32} {w12 : Nat → Int32} {w13 : Nat → Int64} {w14 : Nat → Int64} {w15 : Nat → Int64} {w16 : Nat → Int64} {w17 : Nat → Int64} : (sgX1_hours σ w0 w1 w2 w3 w4 w5 w6 w7 w8 w9 w10 w11 w12 w13 w14 w15 w16 w17).1 1095 = w7 := rfl
theorem sgX1_hours_rzI1262 {σ : Sto} {w0 : Int32} {w1 : Int32} {w2 : Int32} {w3 : Int32} {w4 : Int32} {w5 : Int32} {w6 : Int32} {w7 : Int32} {w8 : Int64} {w9 : Nat → Int32} {w10 : Nat → Int32} {w11 : Nat → Int32} {w12 : Nat → Int32} {w13 : Nat → Int64} {w14 : Nat → Int64} {w15 : Nat → Int64} {w16 : Nat → Int64} {w17 : Nat → Int64} : (sgX1_hours σ w0 w1 w2 w3 w4 w5 w6 w7 w8 w9 w10 w11 w12 w13 w14 w15 w16 w17).1 1262 = σ.1 1262 := rfl
theorem sgX1_hours_rzI1485 {σ : Sto} {w0 : Int32} {w1 : Int32} {w2 : Int32} {w3 : Int32} {w4 : Int32} {w5 : Int32} {w6 : Int32} {w7 : Int32} {w8 : Int64} {w9 : Nat → Int32} {w10 : Nat → Int32} {w11 : Nat → Int32} {w12 : Nat → Int32} {w13 : Nat → Int64} {w14 : Nat → Int64} {w15 : Nat → Int64} {w16 : Nat → Int64} {w17 : Nat → Int64} : (sgX1_hours σ w0 w1 w2 w3 w4 w5 w6 w7 w8 w9 w10 w11 w12 w13 w14 w15 w16 w17).1 1485 = σ.1 1485 := rfl
theorem sgX1_hours_rzI2008 {σ : Sto} {w0 : Int32} {w1 : Int32} {w2 : Int32} {w3 : Int32} {w4 : Int32} {w5 : Int32} {w6 : Int32} {w7 : Int32} {w8 : Int64} {w9 : Nat → Int32} {w10 : Nat → Int32} {w11 : Nat → Int32} {w12 : Nat → Int32} {w13 : Nat → Int64} {w14 : Nat → Int64} {w15 : Nat → Int64} {w16 : Nat → Int64} {w17 : Nat → Int64} : (sgX1_hours σ w0 w1 w2 w3 w4 w5 w6 w7 w8 w9 w10 w11 w12 w13 w14 w15 w16 w17).1 2008 = σ.1 2008 := rfl
theorem sgX1_hours_rzI2009 {σ : Sto} {w0 : Int32} {w1 : Int32} {w2 : Int32} {w3 : Int32} {w4 : Int32} {w5 : Int32} {w6 : Int32} {w7 : Int32} {w8 : Int64} {w9 : Nat → Int32} {w10 : Nat → Int32} {w11 : Nat → Int32} {w12 : Nat → Int32} {w13 : Nat → Int64} {w14 : Nat → Int64} {w15 : Nat → Int64} {w16 : Nat → Int64} {w17 : Nat → Int64} : (sgX1_hours σ w0 w1 w2 w3 w4 w5 w6 w7 w8 w9 w10 w11 w12 w13 w14 w15 w16 w17).1 2009 = σ.1 2009 := rfl
theorem sgX1_hours_rzI2012 {σ : Sto} {w0 : Int32} {w1 : Int32} {w2 : Int32} {w3 : Int32} {w4 : Int32} {w5 : Int32} {w6 : Int32} {w7 : Int32} {w8 : Int64} {w9 : Nat → Int32} {w10 : Nat → Int32} {w11 : Nat → Int32} {w12 : Nat → Int32} {w13 : Nat → Int64} {w14 : Nat → Int64} {w15 : Nat → Int64} {w16 : Nat → Int64} {w17 : Nat → Int64} : (sgX1_hours σ w0 w1 w2 w3 w4 w5 w6 w7 w8 w9 w10 w11 w12 w13 w14 w15 w16 w17).1 2012 = σ.1 2012 := rfl
theorem sgX1_hours_rzI2013 {σ : Sto} {w0 : Int32} {w1 : Int32} {w2 : Int32} {w3 : Int32} {w4 : Int32} {w5 : Int32} {w6 : Int32} {w7 : Int32} {w8 : Int64} {w9 : Nat → Int32} {w10 : Nat → Int32} {w11 : Nat → Int32} {w12 : Nat → Int32} {w13 : Nat → Int64} {w14 : Nat → Int64} {w15 : Nat → Int64} {w16 : Nat → Int64} {w17 : Nat → Int64} : (sgX1_hours σ w0 w1 w2 w3 w4 w5 w6 w7 w8 w9 w10 w11 w12 w13 w14 w15 w16 w17).1 2013 = σ.1 2013 := rfl
theorem sgX1_hours_rzI2027 {σ : Sto} {w0 : Int32} {w1 : Int32} {w2 : Int32} {w3 : Int32} {w4 : Int32} {w5 : Int32} {w6 : Int32} {w7 : Int32} {w8 : Int64} {w9 : Nat → Int32} {w10 : Nat → Int32} {w11 : Nat → Int32} {w12 : Nat → Int32} {w13 : Nat → Int64} {w14 : Nat → Int64} {w15 : Nat → Int64} {w16 : Nat → Int64} {w17 : Nat → Int64} : (sgX1_hours σ w0 w1 w2 w3 w4 w5 w6 w7 w8 w9 w10 w11 w12 w13 w14 w15 w16 w17).1 2027 = σ.1 2027 := rfl
theorem sgX1_hours_rzI2032 {σ : Sto} {w0 : Int32} {w1 : Int32} {w2 : Int32} {w3 : Int32} {w4 : Int32} {w5 : Int32} {w6 : Int32} {w7 : Int32} {w8 : Int64} {w9 : Nat → Int32} {w10 : Nat → Int32} {w11 : Nat → Int32} {w12 : Nat → Int32} {w13 : Nat → Int64} {w14 : Nat → Int64} {w15 : Nat → Int64} {w16 : Nat → Int64} {w17 : Nat → Int64} : (sgX1_hours σ w0 w1 w2 w3 w4 w5 w6 w7 w8 w9 w10 w11 w12 w13 w14 w15 w16 w17).1 2032 = σ.1 2032 := rfl
theorem sgX1_hours_rzL1052 {σ : Sto} {w0 : Int32} {w1 : Int32} {w2 : Int32} {w3 : Int32} {w4 : Int32} {w5 : Int32} {w6 : Int32} {w7 : Int32} {w8 : Int64} {w9 : Nat → Int32} {w10 : Nat → Int32} {w11 : Nat → Int32} {w12 : Nat → Int32} {w13 : Nat → Int64} {w14 : Nat → Int64} {w15 : Nat → Int64} {w16 : Nat → Int64} {w17 : Nat → Int64} : (sgX1_hours σ w0 w1 w2 w3 w4 w5 w6 w7 w8 w9 w10 w11 w12 w13 w14 w15 w16 w17).2.1 1052 = w8 := rfl
theorem sgX1_hours_rzL1061 {σ : Sto} {w0 : Int32} {w1 : Int32} {w2 : Int32} {w3 : Int32} {w4 : Int32} {w5 : Int32} {w6 : Int32} {w7 : Int32} {w8 : Int64} {w9 : Nat → Int32} {w10 : Nat → Int32} {w11 : Nat → Int32} {w12 : Nat → Int32} {w13 : Nat → Int64} {w14 : Nat → Int64} {w15 : Nat → Int64} {w16 : Nat → Int64} {w17 : Nat → Int64} : (sgX1_hours σ w0 w1 w2 w3 w4 w5 w6 w7 w8 w9 w10 w11 w12 w13 w14 w15 w16 w17).2.1 1061 = σ.2.1 1061 := rfl
theorem sgX1_hours_rzL1081 {σ : Sto} {w0 : Int32} {w1 : Int32} {w2 : Int32} {w3 : Int32} {w4 : Int32} {w5 : Int32} {w6 : Int32} {w7 : Int32} {w8 : Int64} {w9 : Nat → Int32} {w10 : Nat → Int32} {w11 : Nat → Int32} {w12 : Nat → Int32} {w13 : Nat → Int64} {w14 : Nat → Int64} {w15 : Nat → Int64} {w16 : Nat → Int64} {w17 : Nat → Int64} : (sgX1_hours σ w0 w1 w2 w3 w4 w5 w6 w7 w8 w9 w10 w11 w12 w13 w14 w15 w16 w17).2.1 1081 = σ.2.1 1081 := rfl
theorem sgX1_hours_rzL1091 {σ : Sto} {w0 : Int32} {w1 : Int32} {w2 : Int32} {w3 : Int32} {w4 : Int32} {w5 : Int32} {w6 : Int32} {w7 : Int32} {w8 : Int64} {w9 : Nat → Int32} {w10 : Nat → Int32} {w11 : Nat → Int32} {w12 : Nat → Int32} {w13 : Nat → Int64} {w14 : Nat → Int64} {w15 : Nat → Int64} {w16 : Nat → Int64} {w17 : Nat → Int64} : (sgX1_hours σ w0 w1 w2 w3 w4 w5 w6 w7 w8 w9 w10 w11 w12 w13 w14 w15 w16 w17).2.1 1091 = σ.2.1 1091 := rfl
theorem sgX1_hours_raI1108 {σ : Sto} {w0 : Int32} {w1 : Int32} {w2 : Int32} {w3 : Int32} {w4 : Int32} {w5 : Int32} {w6 : Int32} {w7 : Int32} {w8 : Int64} {w9 : Nat → Int32} {w10 : Nat → Int32} {w11 : Nat → Int32} {w12 : Nat → Int32} {w13 : Nat → Int64} {w14 : Nat → Int64} {w15 : Nat → Int64} {w16 : Nat → Int64} {w17 : Nat → Int64} : (sgX1_hours σ w0 w1 w2 w3 w4 w5 w6 w7 w8 w9 w10 w11 w12 w13 w14 w15 w16 w17).2.2.1 1108 = w9 := rfl
theorem sgX1_hours_raI1160 {σ : Sto} {w0 : Int32} {w1 : Int32} {w2 : Int32} {w3 : Int32} {w4 : Int32} {w5 : Int32} {w6 : Int32} {w7 : Int32} {w8 : Int64} {w9 : Nat → Int32} {w10 : Nat → Int32} {w11 : Nat → Int32} {w12 : Nat → Int32} {w13 : Nat → Int64} {w14 : Nat → Int64} {w15 : Nat → Int64} {w16 : Nat → Int64} {w17 : Nat → Int64} : (sgX1_hours σ w0 w1 w2 w3 w4 w5 w6 w7 w8 w9 w10 w11 w12 w13 w14 w15 w16 w17).2.2.1 1160 = w10 := rfl
theorem sgX1_hours_raI1162 {σ : Sto} {w0 : Int32} {w1 : Int32} {w2 : Int32} {w3 : Int32} {w4 : Int32} {w5 : Int32} {w6 : Int32} {w7 : Int32} {w8 : Int64} {w9 : Nat → Int32} {w10 : Nat → Int32} {w11 : Nat → Int32} {w12 : Nat → Int32} {w13 : Nat → Int64} {w14 : Nat → Int64} {w15 : Nat → Int64} {w16 : Nat → Int64} {w17 : Nat → Int64} : (sgX1_hours σ w0 w1 w2 w3 w4 w5 w6 w7 w8 w9 w10 w11 w12 w13 w14 w15 w16 w17).2.2.1 1162 = w11 := rfl
theorem sgX1_hours_raI1163 {σ : Sto} {w0 : Int32} {w1 : Int32} {w2 : Int32} {w3 : Int32} {w4 : Int32} {w5 : Int32} {w6 : Int32} {w7 : Int32} {w8 : Int64} {w9 : Nat → Int32} {w10 : Nat → Int32} {w11 : Nat → Int32} {w12 : Nat → Int32} {w13 : Nat → Int64} {w14 : Nat → Int64} {w15 : Nat → Int64} {w16 : Nat → Int64} {w17 : Nat → Int64} : (sgX1_hours σ w0 w1 w2 w3 w4 w5 w6 w7 w8 w9 w10 w11 w12 w13 w14 w15 w16 w17).2.2.1 1163 = w12 := rfl
theorem sgX1_hours_raI1164 {σ : Sto} {w0 : Int32} {w1 : Int32} {w2 : Int32} {w3 : Int32} {w4 : Int32} {w5 : Int32} {w6 : Int32} {w7 : Int32} {w8 : Int64} {w9 : Nat → Int32} {w10 : Nat → Int32} {w11 : Nat → Int32} {w12 : Nat → Int32} {w13 : Nat → Int64} {w14 : Nat → Int64} {w15 : Nat → Int64} {w16 : Nat → Int64} {w17 : Nat → Int64} : (sgX1_hours σ w0 w1 w2 w3 w4 w5 w6 w7 w8 w9 w10 w11 w12 w13 w14 w15 w16 w17).2.2.1 1164 = σ.2.2.1 1164 := rfl
theorem sgX1_hours_raI1170 {σ : Sto} {w0 : Int32} {w1 : Int32} {w2 : Int32} {w3 : Int32} {w4 : Int32} {w5 : Int32} {w6 : Int32} {w7 : Int32} {w8 : Int64} {w9 : Nat → Int32} {w10 : Nat → Int32} {w11 : Nat → Int32} {w12 : Nat → Int32} {w13 : Nat → Int64} {w14 : Nat → Int64} {w15 : Nat → Int64} {w16 : Nat → Int64} {w17 : Nat → Int64} : (sgX1_hours σ w0 w1 w2 w3 w4 w5 w6 w7 w8 w9 w10 w11 w12 w13 w14 w15 w16 w17).2.2.1 1170 = σ.2.2.1 1170 := rfl
theorem sgX1_hours_raI1265 {σ : Sto} {w0 : Int32} {w1 : Int32} {w2 : Int32} {w3 : Int32} {w4 : Int32} {w5 : Int32} {w6 : Int32} {w7 : Int32} {w8 : Int64} {w9 : Nat → Int32} {w10 : Nat → Int32} {w11 : Nat → Int32} {w12 : Nat → Int32} {w13 : Nat → Int64} {w14 : Nat → Int64} {w15 : Nat → Int64} {w16 : Nat → Int64} {w17 : Nat → Int64} : (sgX1_hours σ w0 w1 w2 w3 w4 w5 w6 w7 w8 w9 w10 w11 w12 w13 w14 w15 w16 w17).2.2.1 1265 = σ.2.2.1 1265 := rfl
theorem sgX1_hours_raI2036 {σ : Sto} {w0 : Int32} {w1 : Int32} {w2 : Int32} {w3 : Int32} {w4 : Int32} {w5 : Int32} {w6 : Int32} {w7 : Int32} {w8 : Int64} {w9 : Nat → Int32} {w10 : Nat → Int32} {w11 : Nat → Int32} {w12 : Nat → Int32} {w13 : Nat → Int64} {w14 : Nat → Int64} {w15 : Nat → Int64} {w16 : Nat → Int64} {w17 : Nat → Int64} : (sgX1_hours σ w0 w1 w2 w3 w4 w5 w6 w7 w8 w9 w10 w11 w12 w13 w14 w15 w16 w17).2.2.1 2036 = σ.2.2.1 2036 := rfl
theorem sgX1_hours_raI2037 {σ : Sto} {w0 : Int32} {w1 : Int32} {w2 : Int32} {w3 : Int32} {w4 : Int32} {w5 : Int32} {w6 : Int32} {w7 : Int32} {w8 : Int64} {w9 : Nat → Int32} {w10 : Nat → Int32} {w11 : Nat → Int32} {w12 : Nat → Int32} {w13 : Nat → Int64} {w14 : Nat → Int64} {w15 : Nat → Int64} {w16 : Nat → Int64} {w17 : Nat → Int64} : (sgX1_hours σ w0 w1 w2 w3 w4 w5 w6 w7 w8 w9 w10 w11 w12 w13 w14 w15 w16 w17).2.2.1 2037 = σ.2.2.1 2037 := rfl
theorem sgX1_hours_raI2042 {σ : Sto} {w0 : Int32} {w1 : Int32} {w2 : Int32} {w3 : Int32} {w4 : Int32} {w5 : Int32} {w6 : Int32} {w7 : Int32} {w8 : Int64} {w9 : Nat → Int32} {w10 : Nat → Int32} {w11 : Nat → Int32} {w12 : Nat → Int32} {w13 : Nat → Int64} {w14 : Nat → Int64} {w15 : Nat → Int64} {w16 : Nat → Int64} {w17 : Nat → Int64} : (sgX1_hours σ w0 w1 w2 w3 w4 w5 w6 w7 w8 w9 w10 w11 w12 w13 w14 w15 w16 w17).2.2.1 2042 = σ.2.2.1 2042 := rfl
theorem sgX1_hours_raI2043 {σ : Sto} {w0 : Int32} {w1 : Int32} {w2 : Int32} {w3 : Int32} {w4 : Int32} {w5 : Int32} {w6 : Int32} {w7 : Int32} {w8 : Int64} {w9 : Nat → Int32} {w10 : Nat → Int32} {w11 : Nat → Int32} {w12 : Nat → Int32} {w13 : Nat → Int64} {w14 : Nat → Int64} {w15 : Nat → Int64} {w16 : Nat → Int64} {w17 : Nat → Int64} : (sgX1_hours σ w0 w1 w2 w3 w4 w5 w6 w7 w8 w9 w10 w11 w12 w13 w14 w15 w16 w17).2.2.1 2043 = σ.2.2.1 2043 := rfl
theorem sgX1_hours_raL1140 {σ : Sto} {w0 : Int32} {w1 : Int32} {w2 : Int32} {w3 : Int32} {w4 : Int32} {w5 : Int32} {w6 : Int32} {w7 : Int32} {w8 : Int64} {w9 : Nat → Int32} {w10 : Nat → Int32} {w11 : Nat → Int32} {w12 : Nat → Int32} {w13 : Nat → Int64} {w14 : Nat → Int64} {w15 : Nat → Int64} {w16 : Nat → Int64} {w17 : Nat → Int64} : (sgX1_hours σ w0 w1 w2 w3 w4 w5 w6 w7 w8 w9 w10 w11 w12 w13 w14 w15 w16 w17).2.2.2.1 1140 = w13 := rfl
theorem sgX1_hours_raL1141 {σ : Sto} {w0 : Int32} {w1 : Int32} {w2 : Int32} {w3 : Int32} {w4 : Int32} {w5 : Int32} {w6 : Int32} {w7 : Int32} {w8 : Int64} {w9 : Nat → Int32} {w10 : Nat → Int32} {w11 : Nat → Int32} {w12 : Nat → Int32} {w13 : Nat → Int64} {w14 : Nat → Int64} {w15 : Nat → Int64} {w16 : Nat → Int64} {w17 : Nat → Int64} : (sgX1_hours σ w0 w1 w2 w3 w4 w5 w6 w7 w8 w9 w10 w11 w12 w13 w14 w15 w16 w17).2.2.2.1 1141 = w14 := rfl
theorem sgX1_hours_raL1150 {σ : Sto} {w0 : Int32} {w1 : Int32} {w2 : Int32} {w3 : Int32} {w4 : Int32} {w5 : Int32} {w6 : Int32} {w7 : Int32} {w8 : Int64} {w9 : Nat → Int32} {w10 : Nat → Int32} {w11 : Nat → Int32} {w12 : Nat → Int32} {w13 : Nat → Int64} {w14 : Nat → Int64} {w15 : Nat → Int64} {w16 : Nat → Int64} {w17 : Nat → Int64} : (sgX1_hours σ w0 w1 w2 w3 w4 w5 w6 w7 w8 w9 w10 w11 w12 w13 w14 w15 w16 w17).2.2.2.1 1150 = w15 := rfl
theorem sgX1_hours_raL1152 {σ : Sto} {w0 : Int32} {w1 : Int32} {w2 : Int32} {w3 : Int32} {w4 : Int32} {w5 : Int32} {w6 : Int32} {w7 : Int32} {w8 : Int64} {w9 : Nat → Int32} {w10 : Nat → Int32} {w11 : Nat → Int32} {w12 : Nat → Int32} {w13 : Nat → Int64} {w14 : Nat → Int64} {w15 : Nat → Int64} {w16 : Nat → Int64} {w17 : Nat → Int64} : (sgX1_hours σ w0 w1 w2 w3 w4 w5 w6 w7 w8 w9 w10 w11 w12 w13 w14 w15 w16 w17).2.2.2.1 1152 = w16 := rfl
theorem sgX1_hours_raL1153 {σ : Sto} {w0 : Int32} {w1 : Int32} {w2 : Int32} {w3 : Int32} {w4 : Int32} {w5 : Int32} {w6 : Int32} {w7 : Int32} {w8 : Int64} {w9 : Nat → Int32} {w10 : Nat → Int32} {w11 : Nat → Int32} {w12 : Nat → Int32} {w13 : Nat → Int64} {w14 : Nat → Int64} {w15 : Nat → Int64} {w16 : Nat → Int64} {w17 : Nat → Int64} : (sgX1_hours σ w0 w1 w2 w3 w4 w5 w6 w7 w8 w9 w10 w11 w12 w13 w14 w15 w16 w17).2.2.2.1 1153 = w17 := rfl
theorem sgX1_hours_rpR2 {σ : Sto} {w0 : Int32} {w1 : Int32} {w2 : Int32} {w3 : Int32} {w4 : Int32} {w5 : Int32} {w6 : Int32} {w7 : Int32} {w8 : Int64} {w9 : Nat → Int32} {w10 : Nat → Int32} {w11 : Nat → Int32} {w12 : Nat → Int32} {w13 : Nat → Int64} {w14 : Nat → Int64} {w15 : Nat → Int64} {w16 : Nat → Int64} {w17 : Nat → Int64} : (fun k => (sgX1_hours σ w0 w1 w2 w3 w4 w5 w6 w7 w8 w9 w10 w11 w12 w13 w14 w15 w16 w17).1 (6000 + 16 * k + 2)) = (fun k => σ.1 (6000 + 16 * k + 2)) := by
  funext k
  unfold sgX1_hours
  dsimp only [zI, zL, aI, aL]
  repeat rw [if_neg (by omega)]
theorem sgX1_hours_rpR3 {σ : Sto} {w0 : Int32} {w1 : Int32} {w2 : Int32} {w3 : Int32} {w4 : Int32} {w5 : Int32} {w6 : Int32} {w7 : Int32} {w8 : Int64} {w9 : Nat → Int32} {w10 : Nat → Int32} {w11 : Nat → Int32} {w12 : Nat → Int32} {w13 : Nat → Int64} {w14 : Nat → Int64} {w15 : Nat → Int64} {w16 : Nat → Int64} {w17 : Nat → Int64} : (fun k => (sgX1_hours σ w0 w1 w2 w3 w4 w5 w6 w7 w8 w9 w10 w11 w12 w13 w14 w15 w16 w17).1 (6000 + 16 * k + 3)) = (fun k => σ.1 (6000 + 16 * k + 3)) := by
  funext k
  unfold sgX1_hours
  dsimp only [zI, zL, aI, aL]
  repeat rw [if_neg (by omega)]
theorem sgX1_hours_rpR4 {σ : Sto} {w0 : Int32} {w1 : Int32} {w2 : Int32} {w3 : Int32} {w4 : Int32} {w5 : Int32} {w6 : Int32} {w7 : Int32} {w8 : Int64} {w9 : Nat → Int32} {w10 : Nat → Int32} {w11 : Nat → Int32} {w12 : Nat → Int32} {w13 : Nat → Int64} {w14 : Nat → Int64} {w15 : Nat → Int64} {w16 : Nat → Int64} {w17 : Nat → Int64} : (fun k => (sgX1_hours σ w0 w1 w2 w3 w4 w5 w6 w7 w8 w9 w10 w11 w12 w13 w14 w15 w16 w17).1 (6000 + 16 * k + 4)) = (fun k => σ.1 (6000 + 16 * k + 4)) := by
  funext k
  unfold sgX1_hours
  dsimp only [zI, zL, aI, aL]
  repeat rw [if_neg (by omega)]
theorem sgX1_hours_rpR5 {σ : Sto} {w0 : Int32} {w1 : Int32} {w2 : Int32} {w3 : Int32} {w4 : Int32} {w5 : Int32} {w6 : Int32} {w7 : Int32} {w8 : Int64} {w9 : Nat → Int32} {w10 : Nat → Int32} {w11 : Nat → Int32} {w12 : Nat → Int32} {w13 : Nat → Int64} {w14 : Nat → Int64} {w15 : Nat → Int64} {w16 : Nat → Int64} {w17 : Nat → Int64} : (fun k => (sgX1_hours σ w0 w1 w2 w3 w4 w5 w6 w7 w8 w9 w10 w11 w12 w13 w14 w15 w16 w17).1 (6000 + 16 * k + 5)) = (fun k => σ.1 (6000 + 16 * k + 5)) := by
  funext k
  unfold sgX1_hours
  dsimp only [zI, zL, aI, aL]
  repeat rw [if_neg (by omega)]
theorem sgX1_hours_rpR6 {σ : Sto} {w0 : Int32} {w1 : Int32} {w2 : Int32} {w3 : Int32} {w4 : Int32} {w5 : Int32} {w6 : Int32} {w7 : Int32} {w8 : Int64} {w9 : Nat → Int32} {w10 : Nat → Int32} {w11 : Nat → Int32} {w12 : Nat → Int32} {w13 : Nat → Int64} {w14 : Nat → Int64} {w15 : Nat → Int64} {w16 : Nat → Int64} {w17 : Nat → Int64} : (fun k => (sgX1_hours σ w0 w1 w2 w3 w4 w5 w6 w7 w8 w9 w10 w11 w12 w13 w14 w15 w16 w17).1 (6000 + 16 * k + 6)) = (fun k => σ.1 (6000 + 16 * k + 6)) := by
  funext k
  unfold sgX1_hours
  dsimp only [zI, zL, aI, aL]
  repeat rw [if_neg (by omega)]
theorem sgX1_hours_rpW0 {σ : Sto} {w0 : Int32} {w1 : Int32} {w2 : Int32} {w3 : Int32} {w4 : Int32} {w5 : Int32} {w6 : Int32} {w7 : Int32} {w8 : Int64} {w9 : Nat → Int32} {w10 : Nat → Int32} {w11 : Nat → Int32} {w12 : Nat → Int32} {w13 : Nat → Int64} {w14 : Nat → Int64} {w15 : Nat → Int64} {w16 : Nat → Int64} {w17 : Nat → Int64} : (fun k => (sgX1_hours σ w0 w1 w2 w3 w4 w5 w6 w7 w8 w9 w10 w11 w12 w13 w14 w15 w16 w17).1 (8000 + 16 * k + 0)) = (fun k => σ.1 (8000 + 16 * k + 0)) := by
  funext k
  unfold sgX1_hours
  dsimp only [zI, zL, aI, aL]
  repeat rw [if_neg (by omega)]
theorem sgX1_hours_rpW1 {σ : Sto} {w0 : Int32} {w1 : Int32} {w2 : Int32} {w3 : Int32} {w4 : Int32} {w5 : Int32} {w6 : Int32} {w7 : Int32} {w8 : Int64} {w9 : Nat → Int32} {w10 : Nat → Int32} {w11 : Nat → Int32} {w12 : Nat → Int32} {w13 : Nat → Int64} {w14 : Nat → Int64} {w15 : Nat → Int64} {w16 : Nat → Int64} {w17 : Nat → Int64} : (fun k => (sgX1_hours σ w0 w1 w2 w3 w4 w5 w6 w7 w8 w9 w10 w11 w12 w13 w14 w15 w16 w17).1 (8000 + 16 * k + 1)) = (fun k => σ.1 (8000 + 16 * k + 1)) := by
  funext k
  unfold sgX1_hours
  dsimp only [zI, zL, aI, aL]
  repeat rw [if_neg (by omega)]
theorem sgX1_hours_rpW2 {σ : Sto} {w0 : Int32} {w1 : Int32} {w2 : Int32} {w3 : Int32} {w4 : Int32} {w5 : Int32} {w6 : Int32} {w7 : Int32} {w8 : Int64} {w9 : Nat → Int32} {w10 : Nat → Int32} {w11 : Nat → Int32} {w12 : Nat → Int32} {w13 : Nat → Int64} {w14 : Nat → Int64} {w15 : Nat → Int64} {w16 : Nat → Int64} {w17 : Nat → Int64} : (fun k => (sgX1_hours σ w0 w1 w2 w3 w4 w5 w6 w7 w8 w9 w10 w11 w12 w13 w14 w15 w16 w17).1 (8000 + 16 * k + 2)) = (fun k => σ.1 (8000 + 16 * k + 2)) := by
  funext k
  unfold sgX1_hours
  dsimp only [zI, zL, aI, aL]
  repeat rw [if_neg (by omega)]
theorem sgX1_hours_rpU0 {σ : Sto} {w0 : Int32} {w1 : Int32} {w2 : Int32} {w3 : Int32} {w4 : Int32} {w5 : Int32} {w6 : Int32} {w7 : Int32} {w8 : Int64} {w9 : Nat → Int32} {w10 : Nat → Int32} {w11 : Nat → Int32} {w12 : Nat → Int32} {w13 : Nat → Int64} {w14 : Nat → Int64} {w15 : Nat → Int64} {w16 : Nat → Int64} {w17 : Nat → Int64} : (fun k => (sgX1_hours σ w0 w1 w2 w3 w4 w5 w6 w7 w8 w9 w10 w11 w12 w13 w14 w15 w16 w17).1 (10000 + 16 * k + 0)) = (fun k => σ.1 (10000 + 16 * k + 0)) := by
  funext k
  unfold sgX1_hours
  dsimp only [zI, zL, aI, aL]
  repeat rw [if_neg (by omega)]
theorem sgX1_hours_rpU1 {σ : Sto} {w0 : Int32} {w1 : Int32} {w2 : Int32} {w3 : Int32} {w4 : Int32} {w5 : Int32} {w6 : Int32} {w7 : Int32} {w8 : Int64} {w9 : Nat → Int32} {w10 : Nat → Int32} {w11 : Nat → Int32} {w12 : Nat → Int32} {w13 : Nat → Int64} {w14 : Nat → Int64} {w15 : Nat → Int64} {w16 : Nat → Int64} {w17 : Nat → Int64} : (fun k => (sgX1_hours σ w0 w1 w2 w3 w4 w5 w6 w7 w8 w9 w10 w11 w12 w13 w14 w15 w16 w17).1 (10000 + 16 * k + 1)) = (fun k => σ.1 (10000 + 16 * k + 1)) := by
  funext k
  unfold sgX1_hours
  dsimp only [zI, zL, aI, aL]
  repeat rw [if_neg (by omega)]
theorem sgX1_hours_rpU2 {σ : Sto} {w0 : Int32} {w1 : Int32} {w2 : Int32} {w3 : Int32} {w4 : Int32} {w5 : Int32} {w6 : Int32} {w7 : Int32} {w8 : Int64} {w9 : Nat → Int32} {w10 : Nat → Int32} {w11 : Nat → Int32} {w12 : Nat → Int32} {w13 : Nat → Int64} {w14 : Nat → Int64} {w15 : Nat → Int64} {w16 : Nat → Int64} {w17 : Nat → Int64} : (fun k => (sgX1_hours σ w0 w1 w2 w3 w4 w5 w6 w7 w8 w9 w10 w11 w12 w13 w14 w15 w16 w17).1 (10000 + 16 * k + 2)) = (fun k => σ.1 (10000 + 16 * k + 2)) := by
  funext k
  unfold sgX1_hours
  dsimp only [zI, zL, aI, aL]
  repeat rw [if_neg (by omega)]
theorem sgX1_hours_rpU3 {σ : Sto} {w0 : Int32} {w1 : Int32} {w2 : Int32} {w3 : Int32} {w4 : Int32} {w5 : Int32} {w6 : Int32} {w7 : Int32} {w8 : Int64} {w9 : Nat → Int32} {w10 : Nat → Int32} {w11 : Nat → Int32} {w12 : Nat → Int32} {w13 : Nat → Int64} {w14 : Nat → Int64} {w15 : Nat → Int64} {w16 : Nat → Int64} {w17 : Nat → Int64} : (fun k => (sgX1_hours σ w0 w1 w2 w3 w4 w5 w6 w7 w8 w9 w10 w11 w12 w13 w14 w15 w16 w17).1 (10000 + 16 * k + 3)) = (fun k => σ.1 (10000 + 16 * k + 3)) := by
  funext k
  unfold sgX1_hours
  dsimp only [zI, zL, aI, aL]
  repeat rw [if_neg (by omega)]
theorem sgX1_hours_rgG0 {σ : Sto} {w0 : Int32} {w1 : Int32} {w2 : Int32} {w3 : Int32} {w4 : Int32} {w5 : Int32} {w6 : Int32} {w7 : Int32} {w8 : Int64} {w9 : Nat → Int32} {w10 : Nat → Int32} {w11 : Nat → Int32} {w12 : Nat → Int32} {w13 : Nat → Int64} {w14 : Nat → Int64} {w15 : Nat → Int64} {w16 : Nat → Int64} {w17 : Nat → Int64} : (fun k => (sgX1_hours σ w0 w1 w2 w3 w4 w5 w6 w7 w8 w9 w10 w11 w12 w13 w14 w15 w16 w17).2.2.1 (4000 + 16 * k)) = (fun k => σ.2.2.1 (4000 + 16 * k)) := by
  funext k
  unfold sgX1_hours
  dsimp only [zI, zL, aI, aL]
  repeat rw [if_neg (by omega)]
abbrev rmX1_hours : Room := { frames := 52, cells := 0, slots := 0, locals := 1410 }
set_option maxHeartbeats 4000000 in
theorem wkX1_hours {x1 : Int32} {x2 : Int32} {r_ : Int32} {w_zI1018 : Int32} {w_zI1019 : Int32} {w_zI1020 : Int32} {w_zI1062 : Int32} {w_zI1082 : Int32} {w_zI1092 : Int32} {w_zI1094 : Int32} {w_zI1095 : Int32} {w_zL1052 : Int64} {w_aI1108 : Nat → Int32} {w_aI1160 : Nat → Int32} {w_aI1162 : Nat → Int32} {w_aI1163 : Nat → Int32} {w_aL1140 : Nat → Int64} {w_aL1141 : Nat → Int64} {w_aL1150 : Nat → Int64} {w_aL1152 : Nat → Int64} {w_aL1153 : Nat → Int64} (E : EN p s m args meth c0 RX1 cX1_hours 4 (Option.some Jvm.ClassFile.FieldType.int)) (hX : KX D G ad A s s.heap) (hD : XD dsc nr nw nu) (hA : ∀ q, PA dsc ad s.heap.size q → A q) (hf : xo_X1_hours (σ.1 1018) (σ.1 1019) (σ.1 1020) (σ.1 1062) (σ.1 1082) (σ.1 1092) (σ.1 1094) (σ.1 1095) (σ.1 1262) (σ.1 1485) (σ.1 2008) (σ.1 2009) (σ.1 2012) (σ.1 2013) (σ.1 2027) (σ.1 2032) (σ.2.1 1052) (σ.2.1 1061) (σ.2.1 1081) (σ.2.1 1091) (σ.2.2.1 1108) (σ.2.2.1 1160) (σ.2.2.1 1162) (σ.2.2.1 1163) (σ.2.2.1 1164) (σ.2.2.1 1170) (σ.2.2.1 1265) (σ.2.2.1 2036) (σ.2.2.1 2037) (σ.2.2.1 2042) (σ.2.2.1 2043) (σ.2.2.2.1 1140) (σ.2.2.2.1 1141) (σ.2.2.2.1 1150) (σ.2.2.2.1 1152) (σ.2.2.2.1 1153) nr nw nu (fun k => σ.1 (6000 + 16 * k + 2)) (fun k => σ.1 (6000 + 16 * k + 3)) (fun k => σ.1 (6000 + 16 * k + 4)) (fun k => σ.1 (6000 + 16 * k + 5)) (fun k => σ.1 (6000 + 16 * k + 6)) (fun k => σ.1 (8000 + 16 * k + 0)) (fun k => σ.1 (8000 + 16 * k + 1)) (fun k => σ.1 (8000 + 16 * k + 2)) (fun k => σ.1 (10000 + 16 * k + 0)) (fun k => σ.1 (10000 + 16 * k + 1)) (fun k => σ.1 (10000 + 16 * k + 2)) (fun k => σ.1 (10000 + 16 * k + 3)) (fun k => σ.2.2.1 (4000 + 16 * k)) x1 x2 = some (r_, w_zI1018, w_zI1019, w_zI1020, w_zI1062, w_zI1082, w_zI1092, w_zI1094, w_zI1095, w_zL1052, w_aI1108, w_aI1160, w_aI1162, w_aI1163, w_aL1140, w_aL1141, w_aL1150, w_aL1152, w_aL1153)) (hQ : Q = MQ below (va_G1 (some (.int r_)) (fun t => PIC D clsA G dsc ad (sgX1_hours σ w_zI1018 w_zI1019 w_zI1020 w_zI1062 w_zI1082 w_zI1092 w_zI1094 w_zI1095 w_zL1052 w_aI1108 w_aI1160 w_aI1162 w_aI1163 w_aL1140 w_aL1141 w_aL1150 w_aL1152 w_aL1153) t.heap) A) args s 0 0 A) (hP : PIC D clsA G dsc ad σ H) (hS : va_S A s.heap H locs) (hl : lv_has ls 4 [(0, .ref (ad 1000)), (1, .int x1), (2, .int x2)]) : W p l e rmX1_hours s m args below meth c0 H locs 0 0 Q (F0 m 0 ls []) := by
  obtain ⟨⟨hx, hb, hml, hown, hts⟩, hr, hlk⟩ := id E
  have hP := hP.to (sgX1_hours_self σ).symm
  unfold xo_X1_hours at hf
  refine lv_aload_n hx hb dX1_hours_0 rfl (lv_at hl 0 rfl) ?_
  refine lv_iload_n hx hb dX1_hours_1 rfl (lv_at hl 1 rfl) ?_
  obtain ⟨v1, u2, hf⟩ := bdP hf
  refine cx_X1_315_X1_isPlan E hX hD hP hS hA (kxX1_isPlan l D G hD sgX1_hours_rzI2012 sgX1_hours_rzI2013 u2) ⟨rfl, rfl⟩ ⟨Nat.le_of_ble_eq_true rfl, Nat.le_of_ble_eq_true rfl⟩ ⟨Nat.zero_le _, Nat.zero_le _⟩ hl.1 (Nat.le_of_ble_eq_true rfl) dX1_hours_2 (fun H locs hP hS => ?_)
  refine lv_if_eq (tgt := 16) hx hb dX1_hours_5 (by decide) (fun c3 => ?_) (fun c3 => ?_)
  · have hf := ifT c3 hf
    refine lv_iconst hx hb dX1_hours_16 ic_m1 ?_
    cases hf
    rw [hQ]; exact g_iret hx hb hr hlk hP hS dX1_hours_17
  · have hf := ifF c3 hf
    refine lv_aload_n hx hb dX1_hours_8 rfl (lv_at hl 0 rfl) ?_
    refine lv_iload_n hx hb dX1_hours_9 rfl (lv_at hl 2 rfl) ?_
    obtain ⟨v4, u5, hf⟩ := bdP hf
    refine cx_X1_270_X1_isWorld E hX hD hP hS hA (kxX1_isWorld l D G hD sgX1_hours_rzI2027 u5) ⟨rfl, rfl⟩ ⟨Nat.le_of_ble_eq_true rfl, Nat.le_of_ble_eq_true rfl⟩ ⟨Nat.zero_le _, Nat.zero_le _⟩ hl.1 (Nat.le_of_ble_eq_true rfl) dX1_hours_10 (fun H locs hP hS => ?_)
    refine lv_if_ne (tgt := 18) hx hb dX1_hours_13 (by decide) (fun c6 => ?_) (fun c6 => ?_)
    · have hf := ifF c6 hf
      refine lv_aload_n hx hb dX1_hours_18 rfl (lv_at hl 0 rfl) ?_
      refine lv_iload_n hx hb dX1_hours_19 rfl (lv_at hl 1 rfl) ?_
      obtain ⟨⟨v7, z8, z9, z10, z11, z12, z13, z14, z15, z16, a17, a18, a19, a20, a21, a22, a23⟩, u24, hf⟩ := bdP hf
      dsimp only at hf
      refine cx_X1_318_X1_plan E hX hD hP hS hA (kxX1_plan l D G hD sgX1_hours_rzI1018 sgX1_hours_rzI1019 sgX1_hours_rzI1020 sgX1_hours_rzI1062 sgX1_hours_rzI1082 sgX1_hours_rzI1092 sgX1_hours_rzI1094 sgX1_hours_rzI1095 sgX1_hours_rzI2008 sgX1_hours_rzI2009 sgX1_hours_rzI2012 sgX1_hours_rzI2013 sgX1_hours_rzI2027 sgX1_hours_rzI2032 sgX1_hours_rzL1052 sgX1_hours_rzL1061 sgX1_hours_rzL1081 sgX1_hours_rzL1091 sgX1_hours_raI1108 sgX1_hours_raI1162 sgX1_hours_raI1170 sgX1_hours_raI2036 sgX1_hours_raI2037 sgX1_hours_raI2042 sgX1_hours_raI2043 sgX1_hours_raL1140 sgX1_hours_raL1141 sgX1_hours_raL1150 sgX1_hours_raL1152 sgX1_hours_raL1153 rfl rfl sgX1_hours_rpR2 sgX1_hours_rpR3 sgX1_hours_rpR4 sgX1_hours_rpR5 sgX1_hours_rpR6 sgX1_hours_rpW0 sgX1_hours_rpW1 sgX1_hours_rpW2 sgX1_hours_rgG0 u24) ⟨rfl, rfl⟩ ⟨Nat.le_of_ble_eq_true rfl, Nat.le_of_ble_eq_true rfl⟩ ⟨Nat.zero_le _, Nat.zero_le _⟩ hl.1 (Nat.le_of_ble_eq_true rfl) dX1_hours_20 (fun H locs hP hS => ?_)
      rw [sgX1_hours_zI1018, sgX1_hours_zI1019, sgX1_hours_zI1020, sgX1_hours_zI1062, sgX1_hours_zI1082, sgX1_hours_zI1092, sgX1_hours_zI1094, sgX1_hours_zI1095, sgX1_hours_zL1052, sgX1_hours_aI1108, sgX1_hours_aI1162, sgX1_hours_aL1140, sgX1_hours_aL1141, sgX1_hours_aL1150, sgX1_hours_aL1152, sgX1_hours_aL1153] at hP
      refine r_astore_n (lv' := [(3, va_rf (drf ad 1400 v7)), (0, .ref (ad 1000)), (1, .int x1), (2, .int x2)]) hx hb dX1_hours_23 rfl hl (by decide) rfl (fun ls hl => ?_)
      refine lv_aload_n hx hb dX1_hours_24 rfl (lv_at hl 1 rfl) ?_
      refine gx_X1_40_1000 E hX hD hP dX1_hours_25 ?_
      refine gx_X1_278_1050 E hX hD hP dX1_hours_28 ?_
      refine lv_iload_n hx hb dX1_hours_31 rfl (lv_at hl 3 rfl) ?_
      obtain ⟨v25, hv25, hf⟩ := bdP hf
      refine p_lald hx hb hX.1 hP (hD.1 _ _ dX_1140) sgX1_hours_raL1140 hv25 dX1_hours_32 ?_
      refine lv_lconst hx hb dX1_hours_33 lc_0 ?_
      refine W.lcmp hx hb dX1_hours_34 ?_
      refine lv_if_ne (tgt := 42) hx hb dX1_hours_35 (by decide) (fun c26 => ?_) (fun c26 => ?_)
      · have hf := ifF (mt (lgc_eq _ _).mpr c26) hf
        refine r_aload_n hx hb dX1_hours_42 rfl (lv_at hl 0 rfl) ?_
        refine r_ifnonnull (tgt := 51) hx hb dX1_hours_43 (by decide) (fun c27 => ?_) (fun c27 => ?_)
        · have hf := ifT c27 hf
          refine lv_bipush hx hb dX1_hours_46 bp_m2 ?_
          refine lv_goto (tgt := 56) hx hb dX1_hours_48 (by decide) ?_
          cases hf
          rw [hQ]; exact g_iret hx hb hr hlk hP hS dX1_hours_56
        · have hf := ifF c27 hf
          refine r_aload_n hx hb dX1_hours_51 rfl (lv_at hl 0 rfl) ?_
          refine lv_iload_n hx hb dX1_hours_52 rfl (lv_at hl 3 rfl) ?_
          obtain ⟨⟨v28, a29, a30, a31⟩, u32, hf⟩ := bdP hf
          dsimp only at hf
          refine cx_X1_328_D E hX hD hP hS hA sgX1_hours_rzI1062 sgX1_hours_rzI1082 sgX1_hours_rzI1092 sgX1_hours_rzI1094 sgX1_hours_rzI1095 sgX1_hours_rzI1262 sgX1_hours_rzI1485 sgX1_hours_rzI2008 sgX1_hours_rzI2012 sgX1_hours_rzI2013 sgX1_hours_rzI2027 sgX1_hours_rzI2032 sgX1_hours_rzL1061 sgX1_hours_rzL1081 sgX1_hours_rzL1091 sgX1_hours_raI1108 sgX1_hours_raI1160 sgX1_hours_raI1162 sgX1_hours_raI1163 sgX1_hours_raI1164 sgX1_hours_raI1170 sgX1_hours_raI1265 sgX1_hours_raI2037 sgX1_hours_raI2043 sgX1_hours_raL1140 sgX1_hours_raL1141 sgX1_hours_raL1150 sgX1_hours_raL1152 sgX1_hours_raL1153 rfl rfl rfl sgX1_hours_rpR2 sgX1_hours_rpR5 sgX1_hours_rpR6 sgX1_hours_rpW0 sgX1_hours_rpW1 sgX1_hours_rpW2 sgX1_hours_rpU0 sgX1_hours_rpU1 sgX1_hours_rpU2 sgX1_hours_rpU3 sgX1_hours_rgG0 u32 ⟨Nat.le_of_ble_eq_true rfl, Nat.le_of_ble_eq_true rfl⟩ ⟨Nat.zero_le _, Nat.zero_le _⟩ hl.1 (Nat.le_of_ble_eq_true rfl) dX1_hours_53 (fun H locs hP hS => ?_)
          rw [sgX1_hours_aI1160, sgX1_hours_aI1162, sgX1_hours_aI1163] at hP
          cases hf
          rw [hQ]; exact g_iret hx hb hr hlk hP hS dX1_hours_56
      · have hf := ifT ((lgc_eq _ _).mp c26) hf
        refine lv_iconst hx hb dX1_hours_38 ic_m1 ?_
        refine lv_goto (tgt := 56) hx hb dX1_hours_39 (by decide) ?_
        cases hf
        rw [hQ]; exact g_iret hx hb hr hlk hP hS dX1_hours_56
    · have hf := ifT c6 hf
      refine lv_iconst hx hb dX1_hours_16 ic_m1 ?_
      cases hf
      rw [hQ]; exact g_iret hx hb hr hlk hP hS dX1_hours_17
theorem kxX1_hours (l : Launch) (D : va_G) (G : Nat → ClassId) {dsc : Nat → Option Dsc} {ad : Nat → Nat} {σ : Sto} {nr nw nu : Nat} (hD : XD dsc nr nw nu) {x1 : Int32} {x2 : Int32} {r_ : Int32} {w_zI1018 : Int32} {w_zI1019 : Int32} {w_zI1020 : Int32} {w_zI1062 : Int32} {w_zI1082 : Int32} {w_zI1092 : Int32} {w_zI1094 : Int32} {w_zI1095 : Int32} {w_zL1052 : Int64} {w_aI1108 : Nat → Int32} {w_aI1160 : Nat → Int32} {w_aI1162 : Nat → Int32} {w_aI1163 : Nat → Int32} {w_aL1140 : Nat → Int64} {w_aL1141 : Nat → Int64} {w_aL1150 : Nat → Int64} {w_aL1152 : Nat → Int64} {w_aL1153 : Nat → Int64} {z_X_isLaid : Int32} (e_zI1018 : σ.1 1018 = z_X_isLaid) {z_X_isFair : Int32} (e_zI1019 : σ.1 1019 = z_X_isFair) {z_X_hasFair : Int32} (e_zI1020 : σ.1 1020 = z_X_hasFair) {z_TB_by : Int32} (e_zI1062 : σ.1 1062 = z_TB_by) {z_TS_by : Int32} (e_zI1082 : σ.1 1082 = z_TS_by) {z_TF_by : Int32} (e_zI1092 : σ.1 1092 = z_TF_by) {z_TF_times : Int32} (e_zI1094 : σ.1 1094 = z_TF_times) {z_TF_of : Int32} (e_zI1095 : σ.1 1095 = z_TF_of) {z_ru_size : Int32} (e_zI1262 : σ.1 1262 = z_ru_size) {z_p5_many : Int32} (e_zI1485 : σ.1 1485 = z_p5_many) {z_L_places : Int32} (e_zI2008 : σ.1 2008 = z_L_places) {z_L_causes : Int32} (e_zI2009 : σ.1 2009 = z_L_causes) {z_L_from : Int32} (e_zI2012 : σ.1 2012 = z_L_from) {z_L_to : Int32} (e_zI2013 : σ.1 2013 = z_L_to) {z_Ld_size : Int32} (e_zI2027 : σ.1 2027 = z_Ld_size) {z_Lw_size : Int32} (e_zI2032 : σ.1 2032 = z_Lw_size) {z_W_all : Int64} (e_zL1052 : σ.2.1 1052 = z_W_all) {z_TB_none : Int64} (e_zL1061 : σ.2.1 1061 = z_TB_none) {z_TS_none : Int64} (e_zL1081 : σ.2.1 1081 = z_TS_none) {z_TF_none : Int64} (e_zL1091 : σ.2.1 1091 = z_TF_none) {a_X_knowing : Nat → Int32} (e_aI1108 : σ.2.2.1 1108 = a_X_knowing) {a_p5_far : Nat → Int32} (e_aI1160 : σ.2.2.1 1160 = a_p5_far) {a_p3_far : Nat → Int32} (e_aI1162 : σ.2.2.1 1162 = a_p3_far) {a_p4_far : Nat → Int32} (e_aI1163 : σ.2.2.1 1163 = a_p4_far) {a_p5_row : Nat → Int32} (e_aI1164 : σ.2.2.1 1164 = a_p5_row) {a_UNIT : Nat → Int32} (e_aI1170 : σ.2.2.1 1170 = a_UNIT) {a_ru_data : Nat → Int32} (e_aI1265 : σ.2.2.1 1265 = a_ru_data) {a_Ld_data : Nat → Int32} (e_aI2036 : σ.2.2.1 2036 = a_Ld_data) {a_Lw_data : Nat → Int32} (e_aI2037 : σ.2.2.1 2037 = a_Lw_data) {a_L_comes : Nat → Int32} (e_aI2042 : σ.2.2.1 2042 = a_L_comes) {a_L_seen : Nat → Int32} (e_aI2043 : σ.2.2.1 2043 = a_L_seen) {a_W_world : Nat → Int64} (e_aL1140 : σ.2.2.2.1 1140 = a_W_world) {a_W_likely : Nat → Int64} (e_aL1141 : σ.2.2.2.1 1141 = a_W_likely) {a_TB_value : Nat → Int64} (e_aL1150 : σ.2.2.2.1 1150 = a_TB_value) {a_TS_value : Nat → Int64} (e_aL1152 : σ.2.2.2.1 1152 = a_TS_value) {a_TF_value : Nat → Int64} (e_aL1153 : σ.2.2.2.1 1153 = a_TF_value) {n_r : Nat} (e_nN0 : nr = n_r) {n_w : Nat} (e_nN1 : nw = n_w) {n_u : Nat} (e_nN2 : nu = n_u) {p_road_hours : Nat → Int32} (e_pR2 : (fun k => σ.1 (6000 + 16 * k + 2)) = p_road_hours) {p_road_doubt : Nat → Int32} (e_pR3 : (fun k => σ.1 (6000 + 16 * k + 3)) = p_road_doubt) {p_road_cause : Nat → Int32} (e_pR4 : (fun k => σ.1 (6000 + 16 * k + 4)) = p_road_cause) {p_road_wait : Nat → Int32} (e_pR5 : (fun k => σ.1 (6000 + 16 * k + 5)) = p_road_wait) {p_road_number : Nat → Int32} (e_pR6 : (fun k => σ.1 (6000 + 16 * k + 6)) = p_road_number) {p_word_place : Nat → Int32} (e_pW0 : (fun k => σ.1 (8000 + 16 * k + 0)) = p_word_place) {p_word_road : Nat → Int32} (e_pW1 : (fun k => σ.1 (8000 + 16 * k + 1)) = p_word_road) {p_word_hours : Nat → Int32} (e_pW2 : (fun k => σ.1 (8000 + 16 * k + 2)) = p_word_hours) {p_rule_place : Nat → Int32} (e_pU0 : (fun k => σ.1 (10000 + 16 * k + 0)) = p_rule_place) {p_rule_road : Nat → Int32} (e_pU1 : (fun k => σ.1 (10000 + 16 * k + 1)) = p_rule_road) {p_rule_known : Nat → Int32} (e_pU2 : (fun k => σ.1 (10000 + 16 * k + 2)) = p_rule_known) {p_rule_to : Nat → Int32} (e_pU3 : (fun k => σ.1 (10000 + 16 * k + 3)) = p_rule_to) {g_grid : Nat → Nat → Int32} (e_gG0 : (fun k => σ.2.2.1 (4000 + 16 * k)) = g_grid) (hf : xo_X1_hours z_X_isLaid z_X_isFair z_X_hasFair z_TB_by z_TS_by z_TF_by z_TF_times z_TF_of z_ru_size z_p5_many z_L_places z_L_causes z_L_from z_L_to z_Ld_size z_Lw_size z_W_all z_TB_none z_TS_none z_TF_none a_X_knowing a_p5_far a_p3_far a_p4_far a_p5_row a_UNIT a_ru_data a_Ld_data a_Lw_data a_L_comes a_L_seen a_W_world a_W_likely a_TB_value a_TS_value a_TF_value n_r n_w n_u p_road_hours p_road_doubt p_road_cause p_road_wait p_road_number p_word_place p_word_road p_word_hours p_rule_place p_rule_road p_rule_known p_rule_to g_grid x1 x2 = some (r_, w_zI1018, w_zI1019, w_zI1020, w_zI1062, w_zI1082, w_zI1092, w_zI1094, w_zI1095, w_zL1052, w_aI1108, w_aI1160, w_aI1162, w_aI1163, w_aL1140, w_aL1141, w_aL1150, w_aL1152, w_aL1153)) : CtG l D G dsc ad yX1_hours (ws_ yX1_hours cX1_hours 4 (Option.some Jvm.ClassFile.FieldType.int)) rmX1_hours [.ref (ad 1000), .int x1, .int x2] σ (some (.int r_)) (aL (aL (aL (aL (aL (aI (aI (aI (aI (zL (zI (zI (zI (zI (zI (zI (zI (zI σ 1018 w_zI1018) 1019 w_zI1019) 1020 w_zI1020) 1062 w_zI1062) 1082 w_zI1082) 1092 w_zI1092) 1094 w_zI1094) 1095 w_zI1095) 1052 w_zL1052) 1108 w_aI1108) 1160 w_aI1160) 1162 w_aI1162) 1163 w_aI1163) 1140 w_aL1140) 1141 w_aL1141) 1150 w_aL1150) 1152 w_aL1152) 1153 w_aL1153) := by
  subst e_zI1018
  subst e_zI1019
  subst e_zI1020
  subst e_zI1062
  subst e_zI1082
  subst e_zI1092
  subst e_zI1094
  subst e_zI1095
  subst e_zI1262
  subst e_zI1485
  subst e_zI2008
  subst e_zI2009
  subst e_zI2012
  subst e_zI2013
  subst e_zI2027
  subst e_zI2032
  subst e_zL1052
  subst e_zL1061
  subst e_zL1081
  subst e_zL1091
  subst e_aI1108
  subst e_aI1160
  subst e_aI1162
  subst e_aI1163
  subst e_aI1164
  subst e_aI1170
  subst e_aI1265
  subst e_aI2036
  subst e_aI2037
  subst e_aI2042
  subst e_aI2043
  subst e_aL1140
  subst e_aL1141
  subst e_aL1150
  subst e_aL1152
  subst e_aL1153
  subst e_nN0
  subst e_nN1
  subst e_nN2
  subst e_pR2
  subst e_pR3
  subst e_pR4
  subst e_pR5
  subst e_pR6
  subst e_pW0
  subst e_pW1
  subst e_pW2
  subst e_pU0
  subst e_pU1
  subst e_pU2
  subst e_pU3
  subst e_gG0
  exact p_ctG (by decide +kernel) (Nat.le_of_ble_eq_true rfl) (fun p e s m below meth c0 ls A E hP hX hA hS hl => wkX1_hours E hX hD hA hf rfl hP hS hl)
end XWALK
