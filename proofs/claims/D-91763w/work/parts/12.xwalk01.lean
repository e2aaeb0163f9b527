section XWALK
variable {p : Program} {l : Launch} {e : Env} {R : Room} {s : State} {m : MethodId} {args : Array Value} {below : List Frame} {meth : Method} {c0 : Code} {H : Heap} {locs : List Loc} {cells slots : Nat} {Q : State → Prop}
variable {cc : ByteArray} {nL : Nat} {ret : Option FieldType} {pc : Nat} {ls : Array Slot} {rest : List Value} {D : va_G} {A : Nat → Prop} {G : Nat → ClassId} {dsc : Nat → Option Dsc} {ad : Nat → Nat} {σ : Sto} {nr nw nu : Nat}
/-! X5_buying_TS (III)J -/
abbrev rmX5_buying_TS : Room := { frames := 43, cells := 0, slots := 0, locals := 1195 }
set_option maxHeartbeats 4000000 in
theorem wkX5_buying_TS {x1 : Int32} {x2 : Int32} {x3 : Int32} {r_ : Int64} (E : EN p s m args meth c0 RX5 cX5_buying 7 (Option.some Jvm.ClassFile.FieldType.long)) (hX : KX D G ad A s s.heap) (hD : XD dsc nr nw nu) (hA : ∀ q, PA dsc ad s.heap.size q → A q) (hf : xo_X5_buying_TS (σ.1 1082) (σ.1 2013) (σ.1 2027) (σ.1 2032) (σ.2.1 1081) (σ.2.2.1 1170) (σ.2.2.1 2037) (σ.2.2.1 2043) (σ.2.2.2.1 1141) (σ.2.2.2.1 1152) nw (fun k => σ.1 (8000 + 16 * k + 0)) (fun k => σ.1 (8000 + 16 * k + 1)) (fun k => σ.1 (8000 + 16 * k + 2)) x1 x2 x3 = some r_) (hQ : Q = MQ below (va_G1 (some (.long r_)) (fun t => PIC D clsA G dsc ad σ t.heap) A) args s 0 0 A) (hP : PIC D clsA G dsc ad σ H) (hS : va_S A s.heap H locs) (hl : lv_has ls 7 [(0, .ref (ad 1080)), (1, .int x1), (2, .int x2), (3, .int x3)]) : W p l e rmX5_buying_TS s m args below meth c0 H locs 0 0 Q (F0 m 0 ls []) := by
  obtain ⟨⟨hx, hb, hml, hown, hts⟩, hr, hlk⟩ := id E
  unfold xo_X5_buying_TS at hf
  refine lv_aload_n hx hb dX5_buying_0 rfl (lv_at hl 0 rfl) ?_
  refine gx_X5_3_1080 E hX hD hP dX5_buying_1 ?_
  refine gx_X5_27_1000 E hX hD hP dX5_buying_4 ?_
  refine gx_X5_92_2000 E hX hD hP dX5_buying_7 ?_
  refine lv_iload_n hx hb dX5_buying_10 rfl (lv_at hl 2 rfl) ?_
  obtain ⟨v1, u2, hf⟩ := bdP hf
  refine cx_X5_135_J2_get_Lw E hX hD hP hS hA (kxJ2_get_Lw l D G hD rfl rfl u2) ⟨rfl, rfl⟩ ⟨Nat.le_of_ble_eq_true rfl, Nat.le_of_ble_eq_true rfl⟩ ⟨Nat.zero_le _, Nat.zero_le _⟩ hl.1 (Nat.le_of_ble_eq_true rfl) dX5_buying_11 (fun H locs hP hS => ?_)
  obtain ⟨v3, hv3, hf⟩ := bdP hf
  refine p_castP (ci := 16) (q := (RX19, TX19, 3)) hx hb hX.1 hP hown (hts _ q1189) hv3 hD.2.2.1 rfl dX5_buying_14 ?_
  refine r_astore (lv' := [(4, va_rf (drf ad 8000 v3)), (0, .ref (ad 1080)), (1, .int x1), (2, .int x2), (3, .int x3)]) hx hb dX5_buying_17 hl (by decide) rfl (fun ls hl => ?_)
  refine r_aload hx hb dX5_buying_19 (lv_at hl 0 rfl) ?_
  obtain ⟨v4, hv4, hf⟩ := bdP hf
  refine gp_X5_141_W E hX hD hP rfl hv4 dX5_buying_21 ?_
  refine lv_iload_n hx hb dX5_buying_24 rfl (lv_at hl 2 rfl) ?_
  have J40 : xo_X5_buying_TS_J40 (σ.2.1 1081) = some r_ → ∀ (H : Heap) (locs : List Loc), PIC D clsA G dsc ad σ H → va_S A s.heap H locs → ∀ (ls : Array Slot), lv_has ls 7 [(0, .ref (ad 1080))] → W p l e rmX5_buying_TS s m args below meth c0 H locs 0 0 Q (F0 m 40 ls []) := by
    intro  hf H locs hP hS ls hl
    unfold xo_X5_buying_TS_J40 at hf
    refine lv_aload_n hx hb dX5_buying_40 rfl (lv_at hl 0 rfl) ?_
    refine gx_X5_19_1080 (v := (σ.2.1 1081)) E hX hD hP rfl dX5_buying_41 ?_
    cases hf
    rw [hQ]; exact g_lret hx hb hr hlk hP hS dX5_buying_44
  refine lv_icmp_ne (tgt := 40) hx hb dX5_buying_25 (by decide) (fun c5 => ?_) (fun c5 => ?_)
  · have hf := ifF c5 hf
    exact J40  hf H locs hP hS ls (lv_sub hl [1] rfl)
  · have hf := ifT c5 hf
    refine lv_iload_n hx hb dX5_buying_28 rfl (lv_at hl 4 rfl) ?_
    refine r_aload hx hb dX5_buying_29 (lv_at hl 0 rfl) ?_
    obtain ⟨v6, hv6, hf⟩ := bdP hf
    refine gp_X5_144_W E hX hD hP rfl hv6 dX5_buying_31 ?_
    obtain ⟨v7, u8, hf⟩ := bdP hf
    refine cx_X5_59_X1_digit E hX hD hP hS hA (kxX1_digit l D G hD rfl u8) ⟨rfl, rfl⟩ ⟨Nat.le_of_ble_eq_true rfl, Nat.le_of_ble_eq_true rfl⟩ ⟨Nat.zero_le _, Nat.zero_le _⟩ hl.1 (Nat.le_of_ble_eq_true rfl) dX5_buying_34 (fun H locs hP hS => ?_)
    refine lv_if_eq (tgt := 45) hx hb dX5_buying_37 (by decide) (fun c9 => ?_) (fun c9 => ?_)
    · have hf := ifT c9 hf
      refine lv_aload_n hx hb dX5_buying_45 rfl (lv_at hl 1 rfl) ?_
      refine lv_iconst hx hb dX5_buying_46 ic_1 ?_
      refine r_aload hx hb dX5_buying_47 (lv_at hl 0 rfl) ?_
      obtain ⟨v10, hv10, hf⟩ := bdP hf
      refine gp_X5_144_W E hX hD hP rfl hv10 dX5_buying_49 ?_
      refine lv_ishl hx hb dX5_buying_52 ?_
      refine lv_iload_n hx hb dX5_buying_53 rfl (lv_at hl 2 rfl) ?_
      refine lv_iload_n hx hb dX5_buying_54 rfl (lv_at hl 4 rfl) ?_
      obtain ⟨v11, u12, hf⟩ := bdP hf
      refine cx_X5_114_X5_over_TS E hX hD hP hS hA (kxX5_over_TS l D G hD rfl rfl rfl rfl rfl rfl rfl rfl u12) ⟨rfl, rfl⟩ ⟨Nat.le_of_ble_eq_true rfl, Nat.le_of_ble_eq_true rfl⟩ ⟨Nat.zero_le _, Nat.zero_le _⟩ hl.1 (Nat.le_of_ble_eq_true rfl) dX5_buying_55 (fun H locs hP hS => ?_)
      refine lv_lstore (i := 5) (lv' := [(5, .long v11), (4, va_rf (drf ad 8000 v3)), (0, .ref (ad 1080)), (1, .int x1), (2, .int x2), (3, .int x3)]) hx hb dX5_buying_58 hl (by decide) (by simp [List.filter_cons, rf_cat]) (fun ls hl => ?_)
      refine lv_lload hx hb dX5_buying_60 (lv_at hl 0 rfl) ?_
      refine lv_aload_n hx hb dX5_buying_62 rfl (lv_at hl 2 rfl) ?_
      refine gx_X5_19_1080 (v := (σ.2.1 1081)) E hX hD hP rfl dX5_buying_63 ?_
      refine W.lcmp hx hb dX5_buying_66 ?_
      refine lv_if_ne (tgt := 77) hx hb dX5_buying_67 (by decide) (fun c13 => ?_) (fun c13 => ?_)
      · have hf := ifF (mt (lgc_eq _ _).mpr c13) hf
        refine lv_aload_n hx hb dX5_buying_77 rfl (lv_at hl 2 rfl) ?_
        refine lv_lload hx hb dX5_buying_78 (lv_at hl 0 rfl) ?_
        refine r_aload hx hb dX5_buying_80 (lv_at hl 1 rfl) ?_
        obtain ⟨v14, hv14, hf⟩ := bdP hf
        refine gp_X5_147_W E hX hD hP rfl hv14 dX5_buying_82 ?_
        refine lv_iload_n hx hb dX5_buying_85 rfl (lv_at hl 5 rfl) ?_
        obtain ⟨v15, u16, hf⟩ := bdP hf
        refine cx_X5_110_X7_ahead_TS E hX hD hP hS hA (kxX7_ahead_TS l D G hD u16) ⟨rfl, rfl⟩ ⟨Nat.le_of_ble_eq_true rfl, Nat.le_of_ble_eq_true rfl⟩ ⟨Nat.zero_le _, Nat.zero_le _⟩ hl.1 (Nat.le_of_ble_eq_true rfl) dX5_buying_86 (fun H locs hP hS => ?_)
        cases hf
        rw [hQ]; exact g_lret hx hb hr hlk hP hS dX5_buying_89
      · have hf := ifT ((lgc_eq _ _).mp c13) hf
        refine lv_aload_n hx hb dX5_buying_70 rfl (lv_at hl 2 rfl) ?_
        refine gx_X5_19_1080 (v := (σ.2.1 1081)) E hX hD hP rfl dX5_buying_71 ?_
        refine lv_goto (tgt := 89) hx hb dX5_buying_74 (by decide) ?_
        cases hf
        rw [hQ]; exact g_lret hx hb hr hlk hP hS dX5_buying_89
    · have hf := ifF c9 hf
      exact J40  hf H locs hP hS ls (lv_sub hl [1] rfl)
theorem kxX5_buying_TS (l : Launch) (D : va_G) (G : Nat → ClassId) {dsc : Nat → Option Dsc} {ad : Nat → Nat} {σ : Sto} {nr nw nu : Nat} (hD : XD dsc nr nw nu) {x1 : Int32} {x2 : Int32} {x3 : Int32} {r_ : Int64} {z_TS_by : Int32} (e_zI1082 : σ.1 1082 = z_TS_by) {z_L_to : Int32} (e_zI2013 : σ.1 2013 = z_L_to) {z_Ld_size : Int32} (e_zI2027 : σ.1 2027 = z_Ld_size) {z_Lw_size : Int32} (e_zI2032 : σ.1 2032 = z_Lw_size) {z_TS_none : Int64} (e_zL1081 : σ.2.1 1081 = z_TS_none) {a_UNIT : Nat → Int32} (e_aI1170 : σ.2.2.1 1170 = a_UNIT) {a_Lw_data : Nat → Int32} (e_aI2037 : σ.2.2.1 2037 = a_Lw_data) {a_L_seen : Nat → Int32} (e_aI2043 : σ.2.2.1 2043 = a_L_seen) {a_W_likely : Nat → Int64} (e_aL1141 : σ.2.2.2.1 1141 = a_W_likely) {a_TS_value : Nat → Int64} (e_aL1152 : σ.2.2.2.1 1152 = a_TS_value) {n_w : Nat} (e_nN1 : nw = n_w) {p_word_place : Nat → Int32} (e_pW0 : (fun k => σ.1 (8000 + 16 * k + 0)) = p_word_place) {p_word_road : Nat → Int32} (e_pW1 : (fun k => σ.1 (8000 + 16 * k + 1)) = p_word_road) {p_word_hours : Nat → Int32} (e_pW2 : (fun k => σ.1 (8000 + 16 * k + 2)) = p_word_hours) (hf : xo_X5_buying_TS z_TS_by z_L_to z_Ld_size z_Lw_size z_TS_none a_UNIT a_Lw_data a_L_seen a_W_likely a_TS_value n_w p_word_place p_word_road p_word_hours x1 x2 x3 = some r_) : CtG l D G dsc ad yX5_buying (ws_ yX5_buying cX5_buying 7 (Option.some Jvm.ClassFile.FieldType.long)) rmX5_buying_TS [.ref (ad 1080), .int x1, .int x2, .int x3] σ (some (.long r_)) σ := by
  subst e_zI1082
  subst e_zI2013
  subst e_zI2027
  subst e_zI2032
  subst e_zL1081
  subst e_aI1170
  subst e_aI2037
  subst e_aI2043
  subst e_aL1141
  subst e_aL1152
  subst e_nN1
  subst e_pW0
  subst e_pW1
  subst e_pW2
  exact p_ctG (by decide +kernel) (Nat.le_of_ble_eq_true rfl) (fun p e s m below meth c0 ls A E hP hX hA hS hl => wkX5_buying_TS E hX hD hA hf rfl hP hS hl)
theorem cx_X5_84_X5_going_TS {rm : Room} {σ1 : Sto} {x1 : Int32} {x2 : Int32} {x3 : Int32} {r : Int64} (E : EN p s m args meth c0 RX5 cc nL ret) (hX : KX D G ad A s s.heap) (hD : XD dsc nr nw nu) (hP : PIC D clsA G dsc ad σ H) (hS : va_S A s.heap H locs) (hA : ∀ q, PA dsc ad s.heap.size q → A q) (hM : CtG l D G dsc ad yX5_going (ws_ yX5_going cX5_going 7 (Option.some Jvm.ClassFile.FieldType.long)) rm [.ref (ad 1080), .int x1, .int x2, .int x3] σ (some (.long r)) σ1) (hz : rm.cells = 0 ∧ rm.slots = 0) (hR : rm.frames + 1 ≤ R.frames ∧ 8 + (7 + 11) + rm.locals ≤ R.locals) (hcs : cells ≤ R.cells ∧ slots ≤ R.slots) (hsz : ls.size = nL) (hW : (rest.map fun v => v.category).sum ≤ 8) (hdg : decode cc pc = .ok (.invokevirtual 84, 3)) (kk : ∀ (H1 : Heap) (locs1 : List Loc), PIC D clsA G dsc ad σ1 H1 → va_S A s.heap H1 locs1 → W p l e R s m args below meth c0 H1 locs1 cells slots Q (F0 m (pc + 3) ls (.long r :: rest))) : W p l e R s m args below meth c0 H locs cells slots Q (F0 m pc ls (.int x3 :: .int x2 :: .int x1 :: .ref (ad 1080) :: rest)) :=
  p_gU (As := [.int x1, .int x2, .int x3]) (rest := rest) E.1 hX hP hS hA hM (cw_any (owner := "ShutPasses$Table") (x := ⟨"ShutPasses$Table", "going", "(III)J"⟩) (y := yX5_going) (C := "ShutPasses$AtWorst") (index := 84) (own := RX5) 3 E.1.2.2.2.2 (lw_meth q1103) rfl hz.1 hz.2 (E.1.2.2.2.2 _ q1097) (E.1.2.2.2.2 _ q1099) (va_Decl.of (E.1.2.2.2.2 _ q1098) (E.1.2.2.2.2 _ q1103)) (E.1.2.2.2.2 _ q1100) (E.1.2.2.2.2 _ q1098) (E.1.2.2.2.2 _ q131) (by decide +kernel) hR) (hD.1 _ _ dX_1080) rfl rfl rfl hsz rfl hW hdg hcs kk
theorem cx_X5_95_X5_buying_TS {rm : Room} {σ1 : Sto} {x1 : Int32} {x2 : Int32} {x3 : Int32} {r : Int64} (E : EN p s m args meth c0 RX5 cc nL ret) (hX : KX D G ad A s s.heap) (hD : XD dsc nr nw nu) (hP : PIC D clsA G dsc ad σ H) (hS : va_S A s.heap H locs) (hA : ∀ q, PA dsc ad s.heap.size q → A q) (hM : CtG l D G dsc ad yX5_buying (ws_ yX5_buying cX5_buying 7 (Option.some Jvm.ClassFile.FieldType.long)) rm [.ref (ad 1080), .int x1, .int x2, .int x3] σ (some (.long r)) σ1) (hz : rm.cells = 0 ∧ rm.slots = 0) (hR : rm.frames + 1 ≤ R.frames ∧ 8 + (7 + 11) + rm.locals ≤ R.locals) (hcs : cells ≤ R.cells ∧ slots ≤ R.slots) (hsz : ls.size = nL) (hW : (rest.map fun v => v.category).sum ≤ 8) (hdg : decode cc pc = .ok (.invokevirtual 95, 3)) (kk : ∀ (H1 : Heap) (locs1 : List Loc), PIC D clsA G dsc ad σ1 H1 → va_S A s.heap H1 locs1 → W p l e R s m args below meth c0 H1 locs1 cells slots Q (F0 m (pc + 3) ls (.long r :: rest))) : W p l e R s m args below meth c0 H locs cells slots Q (F0 m pc ls (.int x3 :: .int x2 :: .int x1 :: .ref (ad 1080) :: rest)) :=
  p_gU (As := [.int x1, .int x2, .int x3]) (rest := rest) E.1 hX hP hS hA hM (cw_any (owner := "ShutPasses$Table") (x := ⟨"ShutPasses$Table", "buying", "(III)J"⟩) (y := yX5_buying) (C := "ShutPasses$AtWorst") (index := 95) (own := RX5) 3 E.1.2.2.2.2 (lw_meth q1187) rfl hz.1 hz.2 (E.1.2.2.2.2 _ q1181) (E.1.2.2.2.2 _ q1183) (va_Decl.of (E.1.2.2.2.2 _ q1182) (E.1.2.2.2.2 _ q1187)) (E.1.2.2.2.2 _ q1184) (E.1.2.2.2.2 _ q1182) (E.1.2.2.2.2 _ q131) (by decide +kernel) hR) (hD.1 _ _ dX_1080) rfl rfl rfl hsz rfl hW hdg hcs kk
/-! X5_next_TS (II)I -/
abbrev rmX5_next_TS : Room := { frames := 45, cells := 0, slots := 0, locals := 1243 }
set_option maxHeartbeats 4000000 in
theorem wkX5_next_TS {x1 : Int32} {x2 : Int32} {r_ : Int32} (E : EN p s m args meth c0 RX5 cX5_next 4 (Option.some Jvm.ClassFile.FieldType.int)) (hX : KX D G ad A s s.heap) (hD : XD dsc nr nw nu) (hA : ∀ q, PA dsc ad s.heap.size q → A q) (hf : xo_X5_next_TS (σ.1 1082) (σ.1 2008) (σ.1 2013) (σ.1 2027) (σ.1 2032) (σ.2.1 1081) (σ.2.2.1 1170) (σ.2.2.1 2037) (σ.2.2.1 2043) (σ.2.2.2.1 1141) (σ.2.2.2.1 1152) nr nw (fun k => σ.1 (6000 + 16 * k + 2)) (fun k => σ.1 (6000 + 16 * k + 5)) (fun k => σ.1 (6000 + 16 * k + 6)) (fun k => σ.1 (8000 + 16 * k + 0)) (fun k => σ.1 (8000 + 16 * k + 1)) (fun k => σ.1 (8000 + 16 * k + 2)) (fun k => σ.2.2.1 (4000 + 16 * k)) x1 x2 = some r_) (hQ : Q = MQ below (va_G1 (some (.int r_)) (fun t => PIC D clsA G dsc ad σ t.heap) A) args s 0 0 A) (hP : PIC D clsA G dsc ad σ H) (hS : va_S A s.heap H locs) (hl : lv_has ls 4 [(0, .ref (ad 1080)), (1, .int x1), (2, .int x2)]) : W p l e rmX5_next_TS s m args below meth c0 H locs 0 0 Q (F0 m 0 ls []) := by
  obtain ⟨⟨hx, hb, hml, hown, hts⟩, hr, hlk⟩ := id E
  unfold xo_X5_next_TS at hf
  refine lv_iload_n hx hb dX5_next_0 rfl (lv_at hl 1 rfl) ?_
  refine lv_aload_n hx hb dX5_next_1 rfl (lv_at hl 0 rfl) ?_
  refine gx_X5_3_1080 E hX hD hP dX5_next_2 ?_
  refine gx_X5_27_1000 E hX hD hP dX5_next_5 ?_
  refine gx_X5_67_2000 (v := (σ.1 2013)) E hX hD hP rfl dX5_next_8 ?_
  refine lv_icmp_eq (tgt := 28) hx hb dX5_next_11 (by decide) (fun c1 => ?_) (fun c1 => ?_)
  · have hf := ifT c1 hf
    refine lv_bipush hx hb dX5_next_28 bp_m2 ?_
    cases hf
    rw [hQ]; exact g_iret hx hb hr hlk hP hS dX5_next_30
  · have hf := ifF c1 hf
    refine lv_aload_n hx hb dX5_next_14 rfl (lv_at hl 0 rfl) ?_
    refine lv_iload_n hx hb dX5_next_15 rfl (lv_at hl 1 rfl) ?_
    refine lv_iload_n hx hb dX5_next_16 rfl (lv_at hl 2 rfl) ?_
    obtain ⟨v2, u3, hf⟩ := bdP hf
    refine cx_X5_81_X5_value_TS E hX hD hP hS hA (kxX5_value_TS l D G hD rfl u3) ⟨rfl, rfl⟩ ⟨Nat.le_of_ble_eq_true rfl, Nat.le_of_ble_eq_true rfl⟩ ⟨Nat.zero_le _, Nat.zero_le _⟩ hl.1 (Nat.le_of_ble_eq_true rfl) dX5_next_17 (fun H locs hP hS => ?_)
    refine lv_aload_n hx hb dX5_next_20 rfl (lv_at hl 0 rfl) ?_
    refine gx_X5_19_1080 (v := (σ.2.1 1081)) E hX hD hP rfl dX5_next_21 ?_
    refine W.lcmp hx hb dX5_next_24 ?_
    refine lv_if_ne (tgt := 31) hx hb dX5_next_25 (by decide) (fun c4 => ?_) (fun c4 => ?_)
    · have hf := ifF (mt (lgc_eq _ _).mpr c4) hf
      refine lv_iconst hx hb dX5_next_31 ic_0 ?_
      refine lv_istore_n (lv' := [(3, .int 0), (0, .ref (ad 1080)), (1, .int x1), (2, .int x2)]) hx hb dX5_next_32 rfl hl (by decide) rfl (fun ls hl => ?_)
      have LP33 : ∀ (st33 : Int32) (ex33 : (Int32) ⊕ (Unit)), loop (xo_X5_next_TS_L33 (σ.1 1082) (σ.1 2008) (σ.1 2013) (σ.1 2027) (σ.2.1 1081) (σ.2.2.1 1170) (σ.2.2.1 2043) (σ.2.2.2.1 1141) (σ.2.2.2.1 1152) nr (fun k => σ.1 (6000 + 16 * k + 2)) (fun k => σ.1 (6000 + 16 * k + 5)) (fun k => σ.1 (6000 + 16 * k + 6)) (fun k => σ.2.2.1 (4000 + 16 * k)) x1 x2) st33 = some ex33 → ∀ (H : Heap) (locs : List Loc), PIC D clsA G dsc ad σ H → va_S A s.heap H locs → ∀ (ls : Array Slot), lv_has ls 4 [(0, .ref (ad 1080)), (1, .int x1), (2, .int x2), (3, .int st33)] → (∀ (y13 : Int32), ex33 = (.inl y13) → ∀ (H : Heap) (locs : List Loc), PIC D clsA G dsc ad σ H → va_S A s.heap H locs → ∀ (ls : Array Slot), lv_has ls 4 [(3, .int y13)] → W p l e rmX5_next_TS s m args below meth c0 H locs 0 0 Q (F0 m 64 ls [])) → (ex33 = (.inr ()) → ∀ (H : Heap) (locs : List Loc), PIC D clsA G dsc ad σ H → va_S A s.heap H locs → ∀ (ls : Array Slot), lv_has ls 4 [(0, .ref (ad 1080)), (1, .int x1), (2, .int x2)] → W p l e rmX5_next_TS s m args below meth c0 H locs 0 0 Q (F0 m 72 ls [])) → W p l e rmX5_next_TS s m args below meth c0 H locs 0 0 Q (F0 m 33 ls []) := by
        refine loop_P (fun st33 ex33 o33 hf ih33 hx33 => ?_)
        obtain ⟨y5, rfl⟩ : ∃ z, z = st33 := ⟨_, rfl⟩
        intro H locs (hP : PIC D clsA G dsc ad σ H) hS ls (hl : lv_has ls 4 [(0, .ref (ad 1080)), (1, .int x1), (2, .int x2), (3, .int y5)]) KE33_0 KE33_1
        dsimp only [xo_X5_next_TS_L33] at hf
        refine lv_iload_n hx hb dX5_next_33 rfl (lv_at hl 3 rfl) ?_
        refine lv_aload_n hx hb dX5_next_34 rfl (lv_at hl 0 rfl) ?_
        refine gx_X5_3_1080 E hX hD hP dX5_next_35 ?_
        refine gx_X5_27_1000 E hX hD hP dX5_next_38 ?_
        refine gx_X5_63_2000 (v := (σ.1 2008)) E hX hD hP rfl dX5_next_41 ?_
        refine lv_icmp_ge (tgt := 72) hx hb dX5_next_44 (by decide) (fun c6 => ?_) (fun c6 => ?_)
        · have hf := ifT c6 hf
          exact KE33_1  (hx33 _ (Option.some.inj hf).symm).symm H locs hP hS ls (lv_sub hl [0, 1, 2] rfl)
        · have hf := ifF c6 hf
          refine lv_aload_n hx hb dX5_next_47 rfl (lv_at hl 0 rfl) ?_
          refine lv_iload_n hx hb dX5_next_48 rfl (lv_at hl 1 rfl) ?_
          refine lv_iload_n hx hb dX5_next_49 rfl (lv_at hl 3 rfl) ?_
          refine lv_iload_n hx hb dX5_next_50 rfl (lv_at hl 2 rfl) ?_
          obtain ⟨v7, u8, hf⟩ := bdP hf
          refine cx_X5_84_X5_going_TS E hX hD hP hS hA (kxX5_going_TS l D G hD rfl rfl rfl rfl rfl rfl rfl rfl rfl rfl rfl rfl rfl u8) ⟨rfl, rfl⟩ ⟨Nat.le_of_ble_eq_true rfl, Nat.le_of_ble_eq_true rfl⟩ ⟨Nat.zero_le _, Nat.zero_le _⟩ hl.1 (Nat.le_of_ble_eq_true rfl) dX5_next_51 (fun H locs hP hS => ?_)
          refine lv_aload_n hx hb dX5_next_54 rfl (lv_at hl 0 rfl) ?_
          refine lv_iload_n hx hb dX5_next_55 rfl (lv_at hl 1 rfl) ?_
          refine lv_iload_n hx hb dX5_next_56 rfl (lv_at hl 2 rfl) ?_
          obtain ⟨v9, u10, hf⟩ := bdP hf
          refine cx_X5_81_X5_value_TS E hX hD hP hS hA (kxX5_value_TS l D G hD rfl u10) ⟨rfl, rfl⟩ ⟨Nat.le_of_ble_eq_true rfl, Nat.le_of_ble_eq_true rfl⟩ ⟨Nat.zero_le _, Nat.zero_le _⟩ hl.1 (Nat.le_of_ble_eq_true rfl) dX5_next_57 (fun H locs hP hS => ?_)
          refine W.lcmp hx hb dX5_next_60 ?_
          refine lv_if_ne (tgt := 66) hx hb dX5_next_61 (by decide) (fun c11 => ?_) (fun c11 => ?_)
          · have hf := ifF (mt (lgc_eq _ _).mpr c11) hf
            obtain ⟨v12, hv12, hf⟩ := bdP hf
            refine lv_iinc (v := v12) (lv' := [(3, .int v12), (0, .ref (ad 1080)), (1, .int x1), (2, .int x2)]) hx hb dX5_next_66 hl (k := 3) rfl (Option.some.inj hv12) (by decide) rfl (fun ls hl => ?_)
            refine lv_goto (tgt := 33) hx hb dX5_next_69 (by decide) ?_
            exact ih33 _ (Option.some.inj hf).symm H locs hP hS ls (lv_sub hl [1, 2, 3, 0] rfl) KE33_0 KE33_1
          · have hf := ifT ((lgc_eq _ _).mp c11) hf
            exact KE33_0 _ (hx33 _ (Option.some.inj hf).symm).symm H locs hP hS ls (lv_sub hl [3] rfl)
      obtain ⟨ex33, hlp33, hf⟩ := bdP hf
      refine LP33 0 ex33 hlp33 H locs hP hS ls (lv_sub hl [1, 2, 3, 0] rfl) ?_ ?_
      · intro y13 hex33 H locs hP hS ls hl
        subst ex33
        dsimp only [sE_l, sE_r] at hf
        refine lv_iload_n hx hb dX5_next_64 rfl (lv_at hl 0 rfl) ?_
        cases hf
        rw [hQ]; exact g_iret hx hb hr hlk hP hS dX5_next_65
      · intro  hex33 H locs hP hS ls hl
        subst ex33
        dsimp only [sE_l, sE_r] at hf
        refine lv_iconst hx hb dX5_next_72 ic_0 ?_
        refine lv_istore_n (lv' := [(3, .int 0), (0, .ref (ad 1080)), (1, .int x1), (2, .int x2)]) hx hb dX5_next_73 rfl hl (by decide) rfl (fun ls hl => ?_)
        have LP74 : ∀ (st74 : Int32) (ex74 : (Int32) ⊕ (Unit)), loop (xo_X5_next_TS_L74 (σ.1 1082) (σ.1 2013) (σ.1 2027) (σ.1 2032) (σ.2.1 1081) (σ.2.2.1 1170) (σ.2.2.1 2037) (σ.2.2.1 2043) (σ.2.2.2.1 1141) (σ.2.2.2.1 1152) nw (fun k => σ.1 (8000 + 16 * k + 0)) (fun k => σ.1 (8000 + 16 * k + 1)) (fun k => σ.1 (8000 + 16 * k + 2)) x1 x2) st74 = some ex74 → ∀ (H : Heap) (locs : List Loc), PIC D clsA G dsc ad σ H → va_S A s.heap H locs → ∀ (ls : Array Slot), lv_has ls 4 [(0, .ref (ad 1080)), (1, .int x1), (2, .int x2), (3, .int st74)] → (∀ (y24 : Int32), ex74 = (.inl y24) → ∀ (H : Heap) (locs : List Loc), PIC D clsA G dsc ad σ H → va_S A s.heap H locs → ∀ (ls : Array Slot), lv_has ls 4 [(3, .int y24)] → W p l e rmX5_next_TS s m args below meth c0 H locs 0 0 Q (F0 m 108 ls [])) → (ex74 = (.inr ()) → ∀ (H : Heap) (locs : List Loc), PIC D clsA G dsc ad σ H → va_S A s.heap H locs → ∀ (ls : Array Slot), lv_has ls 4 [] → W p l e rmX5_next_TS s m args below meth c0 H locs 0 0 Q (F0 m 119 ls [])) → W p l e rmX5_next_TS s m args below meth c0 H locs 0 0 Q (F0 m 74 ls []) := by
          refine loop_P (fun st74 ex74 o74 hf ih74 hx74 => ?_)
          obtain ⟨y14, rfl⟩ : ∃ z, z = st74 := ⟨_, rfl⟩
          intro H locs (hP : PIC D clsA G dsc ad σ H) hS ls (hl : lv_has ls 4 [(0, .ref (ad 1080)), (1, .int x1), (2, .int x2), (3, .int y14)]) KE74_0 KE74_1
          dsimp only [xo_X5_next_TS_L74] at hf
          refine lv_iload_n hx hb dX5_next_74 rfl (lv_at hl 3 rfl) ?_
          refine lv_aload_n hx hb dX5_next_75 rfl (lv_at hl 0 rfl) ?_
          refine gx_X5_3_1080 E hX hD hP dX5_next_76 ?_
          refine gx_X5_27_1000 E hX hD hP dX5_next_79 ?_
          refine gx_X5_92_2000 E hX hD hP dX5_next_82 ?_
          obtain ⟨v15, u16, hf⟩ := bdP hf
          refine cx_X5_37_J2_size_Lw E hX hD hP hS hA (kxJ2_size_Lw l D G hD rfl u16) ⟨rfl, rfl⟩ ⟨Nat.le_of_ble_eq_true rfl, Nat.le_of_ble_eq_true rfl⟩ ⟨Nat.zero_le _, Nat.zero_le _⟩ hl.1 (Nat.le_of_ble_eq_true rfl) dX5_next_85 (fun H locs hP hS => ?_)
          refine lv_icmp_ge (tgt := 119) hx hb dX5_next_88 (by decide) (fun c17 => ?_) (fun c17 => ?_)
          · have hf := ifT c17 hf
            exact KE74_1  (hx74 _ (Option.some.inj hf).symm).symm H locs hP hS ls (lv_sub hl [] rfl)
          · have hf := ifF c17 hf
            refine lv_aload_n hx hb dX5_next_91 rfl (lv_at hl 0 rfl) ?_
            refine lv_iload_n hx hb dX5_next_92 rfl (lv_at hl 1 rfl) ?_
            refine lv_iload_n hx hb dX5_next_93 rfl (lv_at hl 3 rfl) ?_
            refine lv_iload_n hx hb dX5_next_94 rfl (lv_at hl 2 rfl) ?_
            obtain ⟨v18, u19, hf⟩ := bdP hf
            refine cx_X5_95_X5_buying_TS E hX hD hP hS hA (kxX5_buying_TS l D G hD rfl rfl rfl rfl rfl rfl rfl rfl rfl rfl rfl rfl rfl rfl u19) ⟨rfl, rfl⟩ ⟨Nat.le_of_ble_eq_true rfl, Nat.le_of_ble_eq_true rfl⟩ ⟨Nat.zero_le _, Nat.zero_le _⟩ hl.1 (Nat.le_of_ble_eq_true rfl) dX5_next_95 (fun H locs hP hS => ?_)
            refine lv_aload_n hx hb dX5_next_98 rfl (lv_at hl 0 rfl) ?_
            refine lv_iload_n hx hb dX5_next_99 rfl (lv_at hl 1 rfl) ?_
            refine lv_iload_n hx hb dX5_next_100 rfl (lv_at hl 2 rfl) ?_
            obtain ⟨v20, u21, hf⟩ := bdP hf
            refine cx_X5_81_X5_value_TS E hX hD hP hS hA (kxX5_value_TS l D G hD rfl u21) ⟨rfl, rfl⟩ ⟨Nat.le_of_ble_eq_true rfl, Nat.le_of_ble_eq_true rfl⟩ ⟨Nat.zero_le _, Nat.zero_le _⟩ hl.1 (Nat.le_of_ble_eq_true rfl) dX5_next_101 (fun H locs hP hS => ?_)
            refine W.lcmp hx hb dX5_next_104 ?_
            refine lv_if_ne (tgt := 113) hx hb dX5_next_105 (by decide) (fun c22 => ?_) (fun c22 => ?_)
            · have hf := ifF (mt (lgc_eq _ _).mpr c22) hf
              obtain ⟨v23, hv23, hf⟩ := bdP hf
              refine lv_iinc (v := v23) (lv' := [(3, .int v23), (0, .ref (ad 1080)), (1, .int x1), (2, .int x2)]) hx hb dX5_next_113 hl (k := 3) rfl (Option.some.inj hv23) (by decide) rfl (fun ls hl => ?_)
              refine lv_goto (tgt := 74) hx hb dX5_next_116 (by decide) ?_
              exact ih74 _ (Option.some.inj hf).symm H locs hP hS ls (lv_sub hl [1, 2, 3, 0] rfl) KE74_0 KE74_1
            · have hf := ifT ((lgc_eq _ _).mp c22) hf
              exact KE74_0 _ (hx74 _ (Option.some.inj hf).symm).symm H locs hP hS ls (lv_sub hl [3] rfl)
        obtain ⟨ex74, hlp74, hf⟩ := bdP hf
        refine LP74 0 ex74 hlp74 H locs hP hS ls (lv_sub hl [1, 2, 3, 0] rfl) ?_ ?_
        · intro y24 hex74 H locs hP hS ls hl
          subst ex74
          dsimp only [sE_l, sE_r] at hf
          refine lv_bipush hx hb dX5_next_108 bp_100 ?_
          refine lv_iload_n hx hb dX5_next_110 rfl (lv_at hl 0 rfl) ?_
          refine lv_iadd hx hb dX5_next_111 ?_
          cases hf
          rw [hQ]; exact g_iret hx hb hr hlk hP hS dX5_next_112
        · intro  hex74 H locs hP hS ls hl
          subst ex74
          dsimp only [sE_l, sE_r] at hf
          refine lv_bipush hx hb dX5_next_119 bp_m2 ?_
          cases hf
          rw [hQ]; exact g_iret hx hb hr hlk hP hS dX5_next_121
    · have hf := ifT ((lgc_eq _ _).mp c4) hf
      refine lv_bipush hx hb dX5_next_28 bp_m2 ?_
      cases hf
      rw [hQ]; exact g_iret hx hb hr hlk hP hS dX5_next_30
theorem kxX5_next_TS (l : Launch) (D : va_G) (G : Nat → ClassId) {dsc : Nat → Option Dsc} {ad : Nat → Nat} {σ : Sto} {nr nw nu : Nat} (hD : XD dsc nr nw nu) {x1 : Int32} {x2 : Int32} {r_ : Int32} {z_TS_by : Int32} (e_zI1082 : σ.1 1082 = z_TS_by) {z_L_places : Int32} (e_zI2008 : σ.1 2008 = z_L_places) {z_L_to : Int32} (e_zI2013 : σ.1 2013 = z_L_to) {z_Ld_size : Int32} (e_zI2027 : σ.1 2027 = z_Ld_size) {z_Lw_size : Int32} (e_zI2032 : σ.1 2032 = z_Lw_size) {z_TS_none : Int64} (e_zL1081 : σ.2.1 1081 = z_TS_none) {a_UNIT : Nat → Int32} (e_aI1170 : σ.2.2.1 1170 = a_UNIT) {a_Lw_data : Nat → Int32} (e_aI2037 : σ.2.2.1 2037 = a_Lw_data) {a_L_seen : Nat → Int32} (e_aI2043 : σ.2.2.1 2043 = a_L_seen) {a_W_likely : Nat → Int64} (e_aL1141 : σ.2.2.2.1 1141 = a_W_likely) {a_TS_value : Nat → Int64} (e_aL1152 : σ.2.2.2.1 1152 = a_TS_value) {n_r : Nat} (e_nN0 : nr = n_r) {n_w : Nat} (e_nN1 : nw = n_w) {p_road_hours : Nat → Int32} (e_pR2 : (fun k => σ.1 (6000 + 16 * k + 2)) = p_road_hours) {p_road_wait : Nat → Int32} (e_pR5 : (fun k => σ.1 (6000 + 16 * k + 5)) = p_road_wait) {p_road_number : Nat → Int32} (e_pR6 : (fun k => σ.1 (6000 + 16 * k + 6)) = p_road_number) {p_word_place : Nat → Int32} (e_pW0 : (fun k => σ.1 (8000 + 16 * k + 0)) = p_word_place) {p_word_road : Nat → Int32} (e_pW1 : (fun k => σ.1 (8000 + 16 * k + 1)) = p_word_road) {p_word_hours : Nat → Int32} (e_pW2 : (fun k => σ.1 (8000 + 16 * k + 2)) = p_word_hours) {g_grid : Nat → Nat → Int32} (e_gG0 : (fun k => σ.2.2.1 (4000 + 16 * k)) = g_grid) (hf : xo_X5_next_TS z_TS_by z_L_places z_L_to z_Ld_size z_Lw_size z_TS_none a_UNIT a_Lw_data a_L_seen a_W_likely a_TS_value n_r n_w p_road_hours p_road_wait p_road_number p_word_place p_word_road p_word_hours g_grid x1 x2 = some r_) : CtG l D G dsc ad yX5_next (ws_ yX5_next cX5_next 4 (Option.some Jvm.ClassFile.FieldType.int)) rmX5_next_TS [.ref (ad 1080), .int x1, .int x2] σ (some (.int r_)) σ := by
  subst e_zI1082
  subst e_zI2008
  subst e_zI2013
  subst e_zI2027
  subst e_zI2032
  subst e_zL1081
  subst e_aI1170
  subst e_aI2037
  subst e_aI2043
  subst e_aL1141
  subst e_aL1152
  subst e_nN0
  subst e_nN1
  subst e_pR2
  subst e_pR5
  subst e_pR6
  subst e_pW0
  subst e_pW1
  subst e_pW2
  subst e_gG0
  exact p_ctG (by decide +kernel) (Nat.le_of_ble_eq_true rfl) (fun p e s m below meth c0 ls A E hP hX hA hS hl => wkX5_next_TS E hX hD hA hf rfl hP hS hl)
theorem gx_X14_13_1416 (E : EN p s m args meth c0 RX14 cc nL ret) (hX : KX D G ad A s s.heap) (hD : XD dsc nr nw nu) (hP : PIC D clsA G dsc ad σ H) (hdg : decode cc pc = .ok (.getfield 13, 3)) (kk : W p l e R s m args below meth c0 H locs cells slots Q (F0 m (pc + 3) ls (.ref (ad 1080) :: rest))) : W p l e R s m args below meth c0 H locs cells slots Q (F0 m pc ls (.ref (ad 1416) :: rest)) :=
  p_get E.1.1 E.1.2.1 E.1.2.2.2.2 in_X14 E.1.2.2.2.1 hX.1 hP (hD.1 _ _ dX_1416) rfl 1 (by decide) (E.1.2.2.2.2 _ q474) (fun _ h => h) rfl rfl hdg kk
theorem cx_X14_17_X5_next_TS {rm : Room} {σ1 : Sto} {x1 : Int32} {x2 : Int32} {r : Int32} (E : EN p s m args meth c0 RX14 cc nL ret) (hX : KX D G ad A s s.heap) (hD : XD dsc nr nw nu) (hP : PIC D clsA G dsc ad σ H) (hS : va_S A s.heap H locs) (hA : ∀ q, PA dsc ad s.heap.size q → A q) (hM : CtG l D G dsc ad yX5_next (ws_ yX5_next cX5_next 4 (Option.some Jvm.ClassFile.FieldType.int)) rm [.ref (ad 1080), .int x1, .int x2] σ (some (.int r)) σ1) (hz : rm.cells = 0 ∧ rm.slots = 0) (hR : rm.frames + 1 ≤ R.frames ∧ 8 + (4 + 11) + rm.locals ≤ R.locals) (hcs : cells ≤ R.cells ∧ slots ≤ R.slots) (hsz : ls.size = nL) (hW : (rest.map fun v => v.category).sum ≤ 8) (hdg : decode cc pc = .ok (.invokevirtual 17, 3)) (kk : ∀ (H1 : Heap) (locs1 : List Loc), PIC D clsA G dsc ad σ1 H1 → va_S A s.heap H1 locs1 → W p l e R s m args below meth c0 H1 locs1 cells slots Q (F0 m (pc + 3) ls (.int r :: rest))) : W p l e R s m args below meth c0 H locs cells slots Q (F0 m pc ls (.int x2 :: .int x1 :: .ref (ad 1080) :: rest)) :=
  p_gU (As := [.int x1, .int x2]) (rest := rest) E.1 hX hP hS hA hM (cw_any (owner := "ShutPasses$Table") (x := ⟨"ShutPasses$Table", "next", "(II)I"⟩) (y := yX5_next) (C := "ShutPasses$AtWorst") (index := 17) (own := RX14) 2 E.1.2.2.2.2 (lw_meth q1309) rfl hz.1 hz.2 (E.1.2.2.2.2 _ q1303) (E.1.2.2.2.2 _ q1305) (va_Decl.of (E.1.2.2.2.2 _ q1304) (E.1.2.2.2.2 _ q1309)) (E.1.2.2.2.2 _ q1306) (E.1.2.2.2.2 _ q1304) (E.1.2.2.2.2 _ q131) (by decide +kernel) hR) (hD.1 _ _ dX_1080) rfl rfl rfl hsz rfl hW hdg hcs kk
/-! X14_next_p1 (II)I -/
abbrev rmX14_next_p1 : Room := { frames := 46, cells := 0, slots := 0, locals := 1266 }
set_option maxHeartbeats 4000000 in
theorem wkX14_next_p1 {x1 : Int32} {x2 : Int32} {r_ : Int32} (E : EN p s m args meth c0 RX14 cX14_next 3 (Option.some Jvm.ClassFile.FieldType.int)) (hX : KX D G ad A s s.heap) (hD : XD dsc nr nw nu) (hA : ∀ q, PA dsc ad s.heap.size q → A q) (hf : xo_X14_next_p1 (σ.1 1082) (σ.1 2008) (σ.1 2013) (σ.1 2027) (σ.1 2032) (σ.2.1 1081) (σ.2.2.1 1170) (σ.2.2.1 2037) (σ.2.2.1 2043) (σ.2.2.2.1 1141) (σ.2.2.2.1 1152) nr nw (fun k => σ.1 (6000 + 16 * k + 2)) (fun k => σ.1 (6000 + 16 * k + 5)) (fun k => σ.1 (6000 + 16 * k + 6)) (fun k => σ.1 (8000 + 16 * k + 0)) (fun k => σ.1 (8000 + 16 * k + 1)) (fun k => σ.1 (8000 + 16 * k + 2)) (fun k => σ.2.2.1 (4000 + 16 * k)) x1 x2 = some r_) (hQ : Q = MQ below (va_G1 (some (.int r_)) (fun t => PIC D clsA G dsc ad σ t.heap) A) args s 0 0 A) (hP : PIC D clsA G dsc ad σ H) (hS : va_S A s.heap H locs) (hl : lv_has ls 3 [(0, .ref (ad 1416)), (1, .int x1), (2, .int x2)]) : W p l e rmX14_next_p1 s m args below meth c0 H locs 0 0 Q (F0 m 0 ls []) := by
  obtain ⟨⟨hx, hb, hml, hown, hts⟩, hr, hlk⟩ := id E
  unfold xo_X14_next_p1 at hf
  refine lv_aload_n hx hb dX14_next_0 rfl (lv_at hl 0 rfl) ?_
  refine gx_X14_13_1416 E hX hD hP dX14_next_1 ?_
  refine lv_iload_n hx hb dX14_next_4 rfl (lv_at hl 1 rfl) ?_
  refine lv_iload_n hx hb dX14_next_5 rfl (lv_at hl 2 rfl) ?_
  obtain ⟨v1, u2, hf⟩ := bdP hf
  refine cx_X14_17_X5_next_TS E hX hD hP hS hA (kxX5_next_TS l D G hD rfl rfl rfl rfl rfl rfl rfl rfl rfl rfl rfl rfl rfl rfl rfl rfl rfl rfl rfl rfl u2) ⟨rfl, rfl⟩ ⟨Nat.le_of_ble_eq_true rfl, Nat.le_of_ble_eq_true rfl⟩ ⟨Nat.zero_le _, Nat.zero_le _⟩ hl.1 (Nat.le_of_ble_eq_true rfl) dX14_next_6 (fun H locs hP hS => ?_)
  cases hf
  rw [hQ]; exact g_iret hx hb hr hlk hP hS dX14_next_9
theorem kxX14_next_p1 (l : Launch) (D : va_G) (G : Nat → ClassId) {dsc : Nat → Option Dsc} {ad : Nat → Nat} {σ : Sto} {nr nw nu : Nat} (hD : XD dsc nr nw nu) {x1 : Int32} {x2 : Int32} {r_ : Int32} {z_TS_by : Int32} (e_zI1082 : σ.1 1082 = z_TS_by) {z_L_places : Int32} (e_zI2008 : σ.1 2008 = z_L_places) {z_L_to : Int32} (e_zI2013 : σ.1 2013 = z_L_to) {z_Ld_size : Int32} (e_zI2027 : σ.1 2027 = z_Ld_size) {z_Lw_size : Int32} (e_zI2032 : σ.1 2032 = z_Lw_size) {z_TS_none : Int64} (e_zL1081 : σ.2.1 1081 = z_TS_none) {a_UNIT : Nat → Int32} (e_aI1170 : σ.2.2.1 1170 = a_UNIT) {a_Lw_data : Nat → Int32} (e_aI2037 : σ.2.2.1 2037 = a_Lw_data) {a_L_seen : Nat → Int32} (e_aI2043 : σ.2.2.1 2043 = a_L_seen) {a_W_likely : Nat → Int64} (e_aL1141 : σ.2.2.2.1 1141 = a_W_likely) {a_TS_value : Nat → Int64} (e_aL1152 : σ.2.2.2.1 1152 = a_TS_value) {n_r : Nat} (e_nN0 : nr = n_r) {n_w : Nat} (e_nN1 : nw = n_w) {p_road_hours : Nat → Int32} (e_pR2 : (fun k => σ.1 (6000 + 16 * k + 2)) = p_road_hours) {p_road_wait : Nat → Int32} (e_pR5 : (fun k => σ.1 (6000 + 16 * k + 5)) = p_road_wait) {p_road_number : Nat → Int32} (e_pR6 : (fun k => σ.1 (6000 + 16 * k + 6)) = p_road_number) {p_word_place : Nat → Int32} (e_pW0 : (fun k => σ.1 (8000 + 16 * k + 0)) = p_word_place) {p_word_road : Nat → Int32} (e_pW1 : (fun k => σ.1 (8000 + 16 * k + 1)) = p_word_road) {p_word_hours : Nat → Int32} (e_pW2 : (fun k => σ.1 (8000 + 16 * k + 2)) = p_word_hours) {g_grid : Nat → Nat → Int32} (e_gG0 : (fun k => σ.2.2.1 (4000 + 16 * k)) = g_grid) (hf : xo_X14_next_p1 z_TS_by z_L_places z_L_to z_Ld_size z_Lw_size z_TS_none a_UNIT a_Lw_data a_L_seen a_W_likely a_TS_value n_r n_w p_road_hours p_road_wait p_road_number p_word_place p_word_road p_word_hours g_grid x1 x2 = some r_) : CtG l D G dsc ad yX14_next (ws_ yX14_next cX14_next 3 (Option.some Jvm.ClassFile.FieldType.int)) rmX14_next_p1 [.ref (ad 1416), .int x1, .int x2] σ (some (.int r_)) σ := by
  subst e_zI1082
  subst e_zI2008
  subst e_zI2013
  subst e_zI2027
  subst e_zI2032
  subst e_zL1081
  subst e_aI1170
  subst e_aI2037
  subst e_aI2043
  subst e_aL1141
  subst e_aL1152
  subst e_nN0
  subst e_nN1
  subst e_pR2
  subst e_pR5
  subst e_pR6
  subst e_pW0
  subst e_pW1
  subst e_pW2
  subst e_gG0
  exact p_ctG (by decide +kernel) (Nat.le_of_ble_eq_true rfl) (fun p e s m below meth c0 ls A E hP hX hA hS hl => wkX14_next_p1 E hX hD hA hf rfl hP hS hl)
theorem gx_X9_3_1416 (E : EN p s m args meth c0 RX9 cc nL ret) (hX : KX D G ad A s s.heap) (hD : XD dsc nr nw nu) (hP : PIC D clsA G dsc ad σ H) (hdg : decode cc pc = .ok (.getfield 3, 3)) (kk : W p l e R s m args below meth c0 H locs cells slots Q (F0 m (pc + 3) ls (.ref (ad 1000) :: rest))) : W p l e R s m args below meth c0 H locs cells slots Q (F0 m pc ls (.ref (ad 1416) :: rest)) :=
  p_get E.1.1 E.1.2.1 E.1.2.2.2.2 in_X14 E.1.2.2.2.1 hX.1 hP (hD.1 _ _ dX_1416) rfl 0 (by decide) (E.1.2.2.2.2 _ q435) (fun _ h => h) rfl rfl hdg kk
theorem cx_X9_32_X14_next_p1 {rm : Room} {σ1 : Sto} {x1 : Int32} {x2 : Int32} {r : Int32} (E : EN p s m args meth c0 RX9 cc nL ret) (hX : KX D G ad A s s.heap) (hD : XD dsc nr nw nu) (hP : PIC D clsA G dsc ad σ H) (hS : va_S A s.heap H locs) (hA : ∀ q, PA dsc ad s.heap.size q → A q) (hM : CtG l D G dsc ad yX14_next (ws_ yX14_next cX14_next 3 (Option.some Jvm.ClassFile.FieldType.int)) rm [.ref (ad 1416), .int x1, .int x2] σ (some (.int r)) σ1) (hz : rm.cells = 0 ∧ rm.slots = 0) (hR : rm.frames + 1 ≤ R.frames ∧ 8 + (3 + 11) + rm.locals ≤ R.locals) (hcs : cells ≤ R.cells ∧ slots ≤ R.slots) (hsz : ls.size = nL) (hW : (rest.map fun v => v.category).sum ≤ 8) (hdg : decode cc pc = .ok (.invokevirtual 32, 3)) (kk : ∀ (H1 : Heap) (locs1 : List Loc), PIC D clsA G dsc ad σ1 H1 → va_S A s.heap H1 locs1 → W p l e R s m args below meth c0 H1 locs1 cells slots Q (F0 m (pc + 3) ls (.int r :: rest))) : W p l e R s m args below meth c0 H locs cells slots Q (F0 m pc ls (.int x2 :: .int x1 :: .ref (ad 1416) :: rest)) :=
  p_gU (As := [.int x1, .int x2]) (rest := rest) E.1 hX hP hS hA hM (cw_any (owner := "ShutPasses$Plan") (x := ⟨"ShutPasses$Plan", "next", "(II)I"⟩) (y := yX14_next) (C := "ShutPasses$ByTable") (index := 32) (own := RX9) 2 E.1.2.2.2.2 (lw_meth q1302) rfl hz.1 hz.2 (E.1.2.2.2.2 _ q1288) (E.1.2.2.2.2 _ q1290) (va_Decl.abs (hX.2.1.1 _ q1289 rfl)) (E.1.2.2.2.2 _ q1300) (E.1.2.2.2.2 _ q1301) (E.1.2.2.2.2 _ q140) (by decide +kernel) hR) (hD.1 _ _ dX_1416) rfl rfl rfl hsz rfl hW hdg hcs kk
/-! X9_hours_p1 (I)I -/
abbrev rmX9_hours_p1 : Room := { frames := 47, cells := 0, slots := 0, locals := 1288 }
set_option maxHeartbeats 4000000 in
theorem wkX9_hours_p1 {x1 : Int32} {r_ : Int32} (E : EN p s m args meth c0 RX9 cX9_hours 9 (Option.some Jvm.ClassFile.FieldType.int)) (hX : KX D G ad A s s.heap) (hD : XD dsc nr nw nu) (hA : ∀ q, PA dsc ad s.heap.size q → A q) (hf : xo_X9_hours_p1 (σ.1 1082) (σ.1 2008) (σ.1 2012) (σ.1 2013) (σ.1 2027) (σ.1 2032) (σ.2.1 1081) (σ.2.2.1 1170) (σ.2.2.1 2037) (σ.2.2.1 2043) (σ.2.2.2.1 1141) (σ.2.2.2.1 1152) nr nw (fun k => σ.1 (6000 + 16 * k + 2)) (fun k => σ.1 (6000 + 16 * k + 5)) (fun k => σ.1 (6000 + 16 * k + 6)) (fun k => σ.1 (8000 + 16 * k + 0)) (fun k => σ.1 (8000 + 16 * k + 1)) (fun k => σ.1 (8000 + 16 * k + 2)) (fun k => σ.2.2.1 (4000 + 16 * k)) x1 = some r_) (hQ : Q = MQ below (va_G1 (some (.int r_)) (fun t => PIC D clsA G dsc ad σ t.heap) A) args s 0 0 A) (hP : PIC D clsA G dsc ad σ H) (hS : va_S A s.heap H locs) (hl : lv_has ls 9 [(0, .ref (ad 1416)), (1, .int x1)]) : W p l e rmX9_hours_p1 s m args below meth c0 H locs 0 0 Q (F0 m 0 ls []) := by
  obtain ⟨⟨hx, hb, hml, hown, hts⟩, hr, hlk⟩ := id E
  unfold xo_X9_hours_p1 at hf
  refine lv_aload_n hx hb dX9_hours_0 rfl (lv_at hl 0 rfl) ?_
  refine gx_X9_3_1416 E hX hD hP dX9_hours_1 ?_
  refine gx_X9_15_1000 E hX hD hP dX9_hours_4 ?_
  refine gx_X9_19_2000 (v := (σ.1 2012)) E hX hD hP rfl dX9_hours_7 ?_
  refine lv_istore_n (lv' := [(2, .int (σ.1 2012)), (0, .ref (ad 1416)), (1, .int x1)]) hx hb dX9_hours_10 rfl hl (by decide) rfl (fun ls hl => ?_)
  refine lv_aload_n hx hb dX9_hours_11 rfl (lv_at hl 1 rfl) ?_
  refine gx_X9_3_1416 E hX hD hP dX9_hours_12 ?_
  refine lv_iload_n hx hb dX9_hours_15 rfl (lv_at hl 0 rfl) ?_
  refine lv_iconst hx hb dX9_hours_16 ic_0 ?_
  refine lv_iload_n hx hb dX9_hours_17 rfl (lv_at hl 2 rfl) ?_
  obtain ⟨v1, u2, hf⟩ := bdP hf
  refine cx_X9_25_X1_seeing E hX hD hP hS hA (kxX1_seeing l D G hD rfl rfl rfl u2) ⟨rfl, rfl⟩ ⟨Nat.le_of_ble_eq_true rfl, Nat.le_of_ble_eq_true rfl⟩ ⟨Nat.zero_le _, Nat.zero_le _⟩ hl.1 (Nat.le_of_ble_eq_true rfl) dX9_hours_18 (fun H locs hP hS => ?_)
  refine lv_istore_n (lv' := [(3, .int v1), (2, .int (σ.1 2012)), (0, .ref (ad 1416)), (1, .int x1)]) hx hb dX9_hours_21 rfl hl (by decide) rfl (fun ls hl => ?_)
  refine lv_iconst hx hb dX9_hours_22 ic_0 ?_
  refine lv_istore (lv' := [(4, .int 0), (3, .int v1), (2, .int (σ.1 2012)), (0, .ref (ad 1416)), (1, .int x1)]) hx hb dX9_hours_23 hl (by decide) rfl (fun ls hl => ?_)
  refine lv_iconst hx hb dX9_hours_25 ic_0 ?_
  refine lv_istore (lv' := [(5, .int 0), (4, .int 0), (3, .int v1), (2, .int (σ.1 2012)), (0, .ref (ad 1416)), (1, .int x1)]) hx hb dX9_hours_26 hl (by decide) rfl (fun ls hl => ?_)
  have LP28 : ∀ (st28 : Int32 × Int32 × Int32 × Int32) (ex28 : (Unit) ⊕ (Int32)), loop (xo_X9_hours_p1_L28 (σ.1 1082) (σ.1 2008) (σ.1 2013) (σ.1 2027) (σ.1 2032) (σ.2.1 1081) (σ.2.2.1 1170) (σ.2.2.1 2037) (σ.2.2.1 2043) (σ.2.2.2.1 1141) (σ.2.2.2.1 1152) nr nw (fun k => σ.1 (6000 + 16 * k + 2)) (fun k => σ.1 (6000 + 16 * k + 5)) (fun k => σ.1 (6000 + 16 * k + 6)) (fun k => σ.1 (8000 + 16 * k + 0)) (fun k => σ.1 (8000 + 16 * k + 1)) (fun k => σ.1 (8000 + 16 * k + 2)) (fun k => σ.2.2.1 (4000 + 16 * k)) x1) st28 = some ex28 → ∀ (H : Heap) (locs : List Loc), PIC D clsA G dsc ad σ H → va_S A s.heap H locs → ∀ (ls : Array Slot), lv_has ls 9 [(0, .ref (ad 1416)), (1, .int x1), (2, .int (st28.1)), (3, .int (st28.2.1)), (4, .int (st28.2.2.1)), (5, .int (st28.2.2.2))] → (ex28 = (.inl (())) → ∀ (H : Heap) (locs : List Loc), PIC D clsA G dsc ad σ H → va_S A s.heap H locs → ∀ (ls : Array Slot), lv_has ls 9 [] → W p l e rmX9_hours_p1 s m args below meth c0 H locs 0 0 Q (F0 m 64 ls [])) → (∀ (y32 : Int32), ex28 = (.inr y32) → ∀ (H : Heap) (locs : List Loc), PIC D clsA G dsc ad σ H → va_S A s.heap H locs → ∀ (ls : Array Slot), lv_has ls 9 [(4, .int y32)] → W p l e rmX9_hours_p1 s m args below meth c0 H locs 0 0 Q (F0 m 186 ls [])) → W p l e rmX9_hours_p1 s m args below meth c0 H locs 0 0 Q (F0 m 28 ls []) := by
    refine loop_P (fun st28 ex28 o28 hf ih28 hx28 => ?_)
    obtain ⟨y3, y4, y5, y6⟩ := st28
    intro H locs (hP : PIC D clsA G dsc ad σ H) hS ls (hl : lv_has ls 9 [(0, .ref (ad 1416)), (1, .int x1), (2, .int y3), (3, .int y4), (4, .int y5), (5, .int y6)]) KE28_0 KE28_1
    dsimp only [xo_X9_hours_p1_L28] at hf
    refine lv_iload_n hx hb dX9_hours_28 rfl (lv_at hl 2 rfl) ?_
    refine lv_aload_n hx hb dX9_hours_29 rfl (lv_at hl 0 rfl) ?_
    refine gx_X9_3_1416 E hX hD hP dX9_hours_30 ?_
    refine gx_X9_15_1000 E hX hD hP dX9_hours_33 ?_
    refine gx_X9_29_2000 (v := (σ.1 2013)) E hX hD hP rfl dX9_hours_36 ?_
    refine lv_icmp_eq (tgt := 186) hx hb dX9_hours_39 (by decide) (fun c7 => ?_) (fun c7 => ?_)
    · have hf := ifT c7 hf
      exact KE28_1 _ (hx28 _ (Option.some.inj hf).symm).symm H locs hP hS ls (lv_sub hl [4] rfl)
    · have hf := ifF c7 hf
      refine lv_aload_n hx hb dX9_hours_42 rfl (lv_at hl 0 rfl) ?_
      refine lv_iload_n hx hb dX9_hours_43 rfl (lv_at hl 2 rfl) ?_
      refine lv_iload_n hx hb dX9_hours_44 rfl (lv_at hl 3 rfl) ?_
      obtain ⟨v8, u9, hf⟩ := bdP hf
      refine cx_X9_32_X14_next_p1 E hX hD hP hS hA (kxX14_next_p1 l D G hD rfl rfl rfl rfl rfl rfl rfl rfl rfl rfl rfl rfl rfl rfl rfl rfl rfl rfl rfl rfl u9) ⟨rfl, rfl⟩ ⟨Nat.le_of_ble_eq_true rfl, Nat.le_of_ble_eq_true rfl⟩ ⟨Nat.zero_le _, Nat.zero_le _⟩ hl.1 (Nat.le_of_ble_eq_true rfl) dX9_hours_45 (fun H locs hP hS => ?_)
      refine lv_istore (lv' := [(6, .int v8), (0, .ref (ad 1416)), (1, .int x1), (2, .int y3), (3, .int y4), (4, .int y5), (5, .int y6)]) hx hb dX9_hours_48 hl (by decide) rfl (fun ls hl => ?_)
      refine lv_iload hx hb dX9_hours_50 (lv_at hl 0 rfl) ?_
      refine lv_bipush hx hb dX9_hours_52 bp_m2 ?_
      refine lv_icmp_eq (tgt := 64) hx hb dX9_hours_54 (by decide) (fun c10 => ?_) (fun c10 => ?_)
      · have hf := ifT c10 hf
        exact KE28_0  (hx28 _ (Option.some.inj hf).symm).symm H locs hP hS ls (lv_sub hl [] rfl)
      · have hf := ifF c10 hf
        refine lv_iload hx hb dX9_hours_57 (lv_at hl 6 rfl) ?_
        refine lv_bipush hx hb dX9_hours_59 bp_10 ?_
        refine lv_icmp_le (tgt := 67) hx hb dX9_hours_61 (by decide) (fun c11 => ?_) (fun c11 => ?_)
        · have hf := ifT c11 hf
          refine lv_iload_n hx hb dX9_hours_67 rfl (lv_at hl 4 rfl) ?_
          refine lv_istore (lv' := [(7, .int y4), (6, .int v8), (0, .ref (ad 1416)), (1, .int x1), (2, .int y3), (3, .int y4), (4, .int y5), (5, .int y6)]) hx hb dX9_hours_68 hl (by decide) rfl (fun ls hl => ?_)
          refine lv_iload hx hb dX9_hours_70 (lv_at hl 1 rfl) ?_
          refine lv_bipush hx hb dX9_hours_72 bp_100 ?_
          have J167 : ∀ (y12 : Int32) (y13 : Int32) (y14 : Int32), xo_X9_hours_p1_J167 y4 y6 y12 y13 y14 = some o28 → ∀ (H : Heap) (locs : List Loc), PIC D clsA G dsc ad σ H → va_S A s.heap H locs → ∀ (ls : Array Slot), lv_has ls 9 [(0, .ref (ad 1416)), (1, .int x1), (2, .int y12), (3, .int y13), (4, .int y14), (5, .int y6), (7, .int y4)] → W p l e rmX9_hours_p1 s m args below meth c0 H locs 0 0 Q (F0 m 167 ls []) := by
            intro y12 y13 y14 hf H locs hP hS ls hl
            unfold xo_X9_hours_p1_J167 at hf
            refine lv_iload_n hx hb dX9_hours_167 rfl (lv_at hl 3 rfl) ?_
            refine lv_iload hx hb dX9_hours_168 (lv_at hl 6 rfl) ?_
            have J181 : ∀ (k15 : Int32), xo_X9_hours_p1_J181 y12 y13 y14 k15 = some o28 → ∀ (H : Heap) (locs : List Loc), PIC D clsA G dsc ad σ H → va_S A s.heap H locs → ∀ (ls : Array Slot), lv_has ls 9 [(0, .ref (ad 1416)), (1, .int x1), (2, .int y12), (3, .int y13), (4, .int y14)] → W p l e rmX9_hours_p1 s m args below meth c0 H locs 0 0 Q (F0 m 181 ls [.int k15]) := by
              intro k15 hf H locs hP hS ls hl
              unfold xo_X9_hours_p1_J181 at hf
              refine lv_istore (lv' := [(5, .int k15), (0, .ref (ad 1416)), (1, .int x1), (2, .int y12), (3, .int y13), (4, .int y14)]) hx hb dX9_hours_181 hl (by decide) rfl (fun ls hl => ?_)
              refine lv_goto (tgt := 28) hx hb dX9_hours_183 (by decide) ?_
              exact ih28 _ (Option.some.inj hf).symm H locs hP hS ls (lv_sub hl [1, 2, 3, 4, 5, 0] rfl) KE28_0 KE28_1
            refine lv_icmp_ne (tgt := 180) hx hb dX9_hours_170 (by decide) (fun c16 => ?_) (fun c16 => ?_)
            · have hf := ifF c16 hf
              refine lv_iconst hx hb dX9_hours_180 ic_0 ?_
              exact J181 0 hf H locs hP hS ls (lv_sub hl [0, 1, 2, 3, 4] rfl)
            · have hf := ifT c16 hf
              refine lv_iload hx hb dX9_hours_173 (lv_at hl 5 rfl) ?_
              refine lv_iconst hx hb dX9_hours_175 ic_1 ?_
              refine lv_iadd hx hb dX9_hours_176 ?_
              refine lv_goto (tgt := 181) hx hb dX9_hours_177 (by decide) ?_
              exact J181 (y6 + 1) hf H locs hP hS ls (lv_sub hl [0, 1, 2, 3, 4] rfl)
          refine lv_icmp_lt (tgt := 134) hx hb dX9_hours_74 (by decide) (fun c17 => ?_) (fun c17 => ?_)
          · have hf := ifT c17 hf
            refine lv_iload hx hb dX9_hours_134 (lv_at hl 6 rfl) ?_
            refine lv_aload_n hx hb dX9_hours_136 rfl (lv_at hl 2 rfl) ?_
            refine gx_X9_3_1416 E hX hD hP dX9_hours_137 ?_
            refine gx_X9_15_1000 E hX hD hP dX9_hours_140 ?_
            refine lv_iload_n hx hb dX9_hours_143 rfl (lv_at hl 4 rfl) ?_
            refine lv_iload hx hb dX9_hours_144 (lv_at hl 1 rfl) ?_
            refine lv_iload_n hx hb dX9_hours_146 rfl (lv_at hl 5 rfl) ?_
            obtain ⟨v18, u19, hf⟩ := bdP hf
            refine cx_X9_57_X3_cost E hX hD hP hS hA (kxX3_cost l D G hD rfl rfl rfl rfl rfl rfl u19) ⟨rfl, rfl⟩ ⟨Nat.le_of_ble_eq_true rfl, Nat.le_of_ble_eq_true rfl⟩ ⟨Nat.zero_le _, Nat.zero_le _⟩ hl.1 (Nat.le_of_ble_eq_true rfl) dX9_hours_147 (fun H locs hP hS => ?_)
            refine lv_iadd hx hb dX9_hours_150 ?_
            obtain ⟨v20, hv20, hf⟩ := bdP hf
            refine nm_i (Option.some.inj hv20) ?_
            refine lv_istore (lv' := [(4, .int v20), (7, .int y4), (6, .int v8), (0, .ref (ad 1416)), (1, .int x1), (2, .int y3), (3, .int y4), (5, .int y6)]) hx hb dX9_hours_151 hl (by decide) rfl (fun ls hl => ?_)
            refine lv_iload hx hb dX9_hours_153 (lv_at hl 2 rfl) ?_
            refine lv_istore_n (lv' := [(2, .int v8), (4, .int v20), (7, .int y4), (6, .int v8), (0, .ref (ad 1416)), (1, .int x1), (3, .int y4), (5, .int y6)]) hx hb dX9_hours_155 rfl hl (by decide) rfl (fun ls hl => ?_)
            refine lv_aload_n hx hb dX9_hours_156 rfl (lv_at hl 4 rfl) ?_
            refine gx_X9_3_1416 E hX hD hP dX9_hours_157 ?_
            refine lv_iload_n hx hb dX9_hours_160 rfl (lv_at hl 0 rfl) ?_
            refine lv_iload_n hx hb dX9_hours_161 rfl (lv_at hl 6 rfl) ?_
            refine lv_iload_n hx hb dX9_hours_162 rfl (lv_at hl 5 rfl) ?_
            obtain ⟨v21, u22, hf⟩ := bdP hf
            refine cx_X9_25_X1_seeing E hX hD hP hS hA (kxX1_seeing l D G hD rfl rfl rfl u22) ⟨rfl, rfl⟩ ⟨Nat.le_of_ble_eq_true rfl, Nat.le_of_ble_eq_true rfl⟩ ⟨Nat.zero_le _, Nat.zero_le _⟩ hl.1 (Nat.le_of_ble_eq_true rfl) dX9_hours_163 (fun H locs hP hS => ?_)
            refine lv_istore_n (lv' := [(3, .int v21), (2, .int v8), (4, .int v20), (7, .int y4), (6, .int v8), (0, .ref (ad 1416)), (1, .int x1), (5, .int y6)]) hx hb dX9_hours_166 rfl hl (by decide) rfl (fun ls hl => ?_)
            exact J167 v8 v21 v20 hf H locs hP hS ls (lv_sub hl [5, 6, 1, 0, 2, 7, 3] rfl)
          · have hf := ifF c17 hf
            refine lv_aload_n hx hb dX9_hours_77 rfl (lv_at hl 2 rfl) ?_
            refine gx_X9_3_1416 E hX hD hP dX9_hours_78 ?_
            refine gx_X9_15_1000 E hX hD hP dX9_hours_81 ?_
            refine gx_X9_36_2000 E hX hD hP dX9_hours_84 ?_
            refine lv_iload hx hb dX9_hours_87 (lv_at hl 1 rfl) ?_
            refine lv_bipush hx hb dX9_hours_89 bp_100 ?_
            refine lv_isub hx hb dX9_hours_91 ?_
            obtain ⟨v23, u24, hf⟩ := bdP hf
            refine cx_X9_40_J2_get_Lw E hX hD hP hS hA (kxJ2_get_Lw l D G hD rfl rfl u24) ⟨rfl, rfl⟩ ⟨Nat.le_of_ble_eq_true rfl, Nat.le_of_ble_eq_true rfl⟩ ⟨Nat.zero_le _, Nat.zero_le _⟩ hl.1 (Nat.le_of_ble_eq_true rfl) dX9_hours_92 (fun H locs hP hS => ?_)
            obtain ⟨v25, hv25, hf⟩ := bdP hf
            refine p_castP (ci := 16) (q := (RX19, TX19, 3)) hx hb hX.1 hP hown (hts _ q1314) hv25 hD.2.2.1 rfl dX9_hours_95 ?_
            refine r_astore (lv' := [(8, va_rf (drf ad 8000 v25)), (7, .int y4), (6, .int v8), (0, .ref (ad 1416)), (1, .int x1), (2, .int y3), (3, .int y4), (4, .int y5), (5, .int y6)]) hx hb dX9_hours_98 hl (by decide) rfl (fun ls hl => ?_)
            refine lv_iload hx hb dX9_hours_100 (lv_at hl 7 rfl) ?_
            refine r_aload hx hb dX9_hours_102 (lv_at hl 0 rfl) ?_
            obtain ⟨v26, hv26, hf⟩ := bdP hf
            refine gp_X9_48_W E hX hD hP rfl hv26 dX9_hours_104 ?_
            refine lv_iadd hx hb dX9_hours_107 ?_
            obtain ⟨v27, hv27, hf⟩ := bdP hf
            refine nm_i (Option.some.inj hv27) ?_
            refine lv_istore (lv' := [(4, .int v27), (8, va_rf (drf ad 8000 v25)), (7, .int y4), (6, .int v8), (0, .ref (ad 1416)), (1, .int x1), (2, .int y3), (3, .int y4), (5, .int y6)]) hx hb dX9_hours_108 hl (by decide) rfl (fun ls hl => ?_)
            refine lv_iload_n hx hb dX9_hours_110 rfl (lv_at hl 7 rfl) ?_
            refine r_aload hx hb dX9_hours_111 (lv_at hl 1 rfl) ?_
            obtain ⟨v28, hv28, hf⟩ := bdP hf
            refine gp_X9_51_W E hX hD hP rfl hv28 dX9_hours_113 ?_
            refine lv_iconst hx hb dX9_hours_116 ic_1 ?_
            refine lv_iload_n hx hb dX9_hours_117 rfl (lv_at hl 5 rfl) ?_
            refine r_aload hx hb dX9_hours_118 (lv_at hl 1 rfl) ?_
            obtain ⟨v29, hv29, hf⟩ := bdP hf
            refine gp_X9_51_W E hX hD hP rfl hv29 dX9_hours_120 ?_
            refine lv_ishr hx hb dX9_hours_123 ?_
            refine lv_iconst hx hb dX9_hours_124 ic_1 ?_
            refine lv_iand hx hb dX9_hours_125 ?_
            refine lv_iadd hx hb dX9_hours_126 ?_
            obtain ⟨v30, u31, hf⟩ := bdP hf
            refine cx_X9_54_X1_with E hX hD hP hS hA (kxX1_with l D G hD rfl u31) ⟨rfl, rfl⟩ ⟨Nat.le_of_ble_eq_true rfl, Nat.le_of_ble_eq_true rfl⟩ ⟨Nat.zero_le _, Nat.zero_le _⟩ hl.1 (Nat.le_of_ble_eq_true rfl) dX9_hours_127 (fun H locs hP hS => ?_)
            refine lv_istore_n (lv' := [(3, .int v30), (4, .int v27), (8, va_rf (drf ad 8000 v25)), (7, .int y4), (6, .int v8), (0, .ref (ad 1416)), (1, .int x1), (2, .int y3), (5, .int y6)]) hx hb dX9_hours_130 rfl hl (by decide) rfl (fun ls hl => ?_)
            refine lv_goto (tgt := 167) hx hb dX9_hours_131 (by decide) ?_
            exact J167 y3 v30 v27 hf H locs hP hS ls (lv_sub hl [5, 6, 7, 0, 1, 8, 3] rfl)
        · have hf := ifF c11 hf
          exact KE28_0  (hx28 _ (Option.some.inj hf).symm).symm H locs hP hS ls (lv_sub hl [] rfl)
  obtain ⟨ex28, hlp28, hf⟩ := bdP hf
  refine LP28 ((σ.1 2012), v1, 0, 0) ex28 hlp28 H locs hP hS ls (lv_sub hl [4, 5, 3, 2, 1, 0] rfl) ?_ ?_
  · intro  hex28 H locs hP hS ls hl
    subst ex28
    dsimp only [sE_l, sE_r] at hf
    refine lv_bipush hx hb dX9_hours_64 bp_m2 ?_
    cases hf
    rw [hQ]; exact g_iret hx hb hr hlk hP hS dX9_hours_66
  · intro y32 hex28 H locs hP hS ls hl
    subst ex28
    dsimp only [sE_l, sE_r] at hf
    refine lv_iload hx hb dX9_hours_186 (lv_at hl 0 rfl) ?_
    cases hf
    rw [hQ]; exact g_iret hx hb hr hlk hP hS dX9_hours_188
theorem kxX9_hours_p1 (l : Launch) (D : va_G) (G : Nat → ClassId) {dsc : Nat → Option Dsc} {ad : Nat → Nat} {σ : Sto} {nr nw nu : Nat} (hD : XD dsc nr nw nu) {x1 : Int32} {r_ : Int32} {z_TS_by : Int32} (e_zI1082 : σ.1 1082 = z_TS_by) {z_L_places : Int32} (e_zI2008 : σ.1 2008 = z_L_places) {z_L_from : Int32} (e_zI2012 : σ.1 2012 = z_L_from) {z_L_to : Int32} (e_zI2013 : σ.1 2013 = z_L_to) {z_Ld_size : Int32} (e_zI2027 : σ.1 2027 = z_Ld_size) {z_Lw_size : Int32} (e_zI2032 : σ.1 2032 = z_Lw_size) {z_TS_none : Int64} (e_zL1081 : σ.2.1 1081 = z_TS_none) {a_UNIT : Nat → Int32} (e_aI1170 : σ.2.2.1 1170 = a_UNIT) {a_Lw_data : Nat → Int32} (e_aI2037 : σ.2.2.1 2037 = a_Lw_data) {a_L_seen : Nat → Int32} (e_aI2043 : σ.2.2.1 2043 = a_L_seen) {a_W_likely : Nat → Int64} (e_aL1141 : σ.2.2.2.1 1141 = a_W_likely) {a_TS_value : Nat → Int64} (e_aL1152 : σ.2.2.2.1 1152 = a_TS_value) {n_r : Nat} (e_nN0 : nr = n_r) {n_w : Nat} (e_nN1 : nw = n_w) {p_road_hours : Nat → Int32} (e_pR2 : (fun k => σ.1 (6000 + 16 * k + 2)) = p_road_hours) {p_road_wait : Nat → Int32} (e_pR5 : (fun k => σ.1 (6000 + 16 * k + 5)) = p_road_wait) {p_road_number : Nat → Int32} (e_pR6 : (fun k => σ.1 (6000 + 16 * k + 6)) = p_road_number) {p_word_place : Nat → Int32} (e_pW0 : (fun k => σ.1 (8000 + 16 * k + 0)) = p_word_place) {p_word_road : Nat → Int32} (e_pW1 : (fun k => σ.1 (8000 + 16 * k + 1)) = p_word_road) {p_word_hours : Nat → Int32} (e_pW2 : (fun k => σ.1 (8000 + 16 * k + 2)) = p_word_hours) {g_grid : Nat → Nat → Int32} (e_gG0 : (fun k => σ.2.2.1 (4000 + 16 * k)) = g_grid) (hf : xo_X9_hours_p1 z_TS_by z_L_places z_L_from z_L_to z_Ld_size z_Lw_size z_TS_none a_UNIT a_Lw_data a_L_seen a_W_likely a_TS_value n_r n_w p_road_hours p_road_wait p_road_number p_word_place p_word_road p_word_hours g_grid x1 = some r_) : CtG l D G dsc ad yX9_hours (ws_ yX9_hours cX9_hours 9 (Option.some Jvm.ClassFile.FieldType.int)) rmX9_hours_p1 [.ref (ad 1416), .int x1] σ (some (.int r_)) σ := by
  subst e_zI1082
  subst e_zI2008
  subst e_zI2012
  subst e_zI2013
  subst e_zI2027
  subst e_zI2032
  subst e_zL1081
  subst e_aI1170
  subst e_aI2037
  subst e_aI2043
  subst e_aL1141
  subst e_aL1152
  subst e_nN0
  subst e_nN1
  subst e_pR2
  subst e_pR5
  subst e_pR6
  subst e_pW0
  subst e_pW1
  subst e_pW2
  subst e_gG0
  exact p_ctG (by decide +kernel) (Nat.le_of_ble_eq_true rfl) (fun p e s m below meth c0 ls A E hP hX hA hS hl => wkX9_hours_p1 E hX hD hA hf rfl hP hS hl)
theorem gx_X5_15_1090 (E : EN p s m args meth c0 RX5 cc nL ret) (hX : KX D G ad A s s.heap) (hD : XD dsc nr nw nu) (hP : PIC D clsA G dsc ad σ H) (hdg : decode cc pc = .ok (.getfield 15, 3)) (kk : W p l e R s m args below meth c0 H locs cells slots Q (F0 m (pc + 3) ls (.ref (ad 1153) :: rest))) : W p l e R s m args below meth c0 H locs cells slots Q (F0 m pc ls (.ref (ad 1090) :: rest)) :=
  p_get E.1.1 E.1.2.1 E.1.2.2.2.2 in_X8 E.1.2.2.2.1 hX.1 hP (hD.1 _ _ dX_1090) rfl 0 (by decide) (E.1.2.2.2.2 _ q352) (fun _ h => h) rfl rfl hdg kk
/-! X5_value_TF (II)J -/
abbrev rmX5_value_TF : Room := { frames := 0, cells := 0, slots := 0, locals := 0 }
set_option maxHeartbeats 4000000 in
theorem wkX5_value_TF {x1 : Int32} {x2 : Int32} {r_ : Int64} (E : EN p s m args meth c0 RX5 cX5_value 3 (Option.some Jvm.ClassFile.FieldType.long)) (hX : KX D G ad A s s.heap) (hD : XD dsc nr nw nu) (hA : ∀ q, PA dsc ad s.heap.size q → A q) (hf : xo_X5_value_TF (σ.2.2.2.1 1153) x1 x2 = some r_) (hQ : Q = MQ below (va_G1 (some (.long r_)) (fun t => PIC D clsA G dsc ad σ t.heap) A) args s 0 0 A) (hP : PIC D clsA G dsc ad σ H) (hS : va_S A s.heap H locs) (hl : lv_has ls 3 [(0, .ref (ad 1090)), (1, .int x1), (2, .int x2)]) : W p l e rmX5_value_TF s m args below meth c0 H locs 0 0 Q (F0 m 0 ls []) := by
  obtain ⟨⟨hx, hb, hml, hown, hts⟩, hr, hlk⟩ := id E
  unfold xo_X5_value_TF at hf
  refine lv_aload_n hx hb dX5_value_0 rfl (lv_at hl 0 rfl) ?_
  refine gx_X5_15_1090 E hX hD hP dX5_value_1 ?_
  refine lv_bipush hx hb dX5_value_4 bp_10 ?_
  refine lv_iload_n hx hb dX5_value_6 rfl (lv_at hl 2 rfl) ?_
  refine lv_imul hx hb dX5_value_7 ?_
  refine lv_iload_n hx hb dX5_value_8 rfl (lv_at hl 1 rfl) ?_
  refine lv_iadd hx hb dX5_value_9 ?_
  obtain ⟨v1, hv1, hf⟩ := bdP hf
  refine p_lald hx hb hX.1 hP (hD.1 _ _ dX_1153) rfl hv1 dX5_value_10 ?_
  cases hf
  rw [hQ]; exact g_lret hx hb hr hlk hP hS dX5_value_11
theorem kxX5_value_TF (l : Launch) (D : va_G) (G : Nat → ClassId) {dsc : Nat → Option Dsc} {ad : Nat → Nat} {σ : Sto} {nr nw nu : Nat} (hD : XD dsc nr nw nu) {x1 : Int32} {x2 : Int32} {r_ : Int64} {a_TF_value : Nat → Int64} (e_aL1153 : σ.2.2.2.1 1153 = a_TF_value) (hf : xo_X5_value_TF a_TF_value x1 x2 = some r_) : CtG l D G dsc ad yX5_value (ws_ yX5_value cX5_value 3 (Option.some Jvm.ClassFile.FieldType.long)) rmX5_value_TF [.ref (ad 1090), .int x1, .int x2] σ (some (.long r_)) σ := by
  subst e_aL1153
  exact p_ctG (by decide +kernel) (Nat.le_of_ble_eq_true rfl) (fun p e s m below meth c0 ls A E hP hX hA hS hl => wkX5_value_TF E hX hD hA hf rfl hP hS hl)
/-! X3_worlds ()I -/
abbrev rmX3_worlds : Room := { frames := 1, cells := 0, slots := 0, locals := 20 }
set_option maxHeartbeats 4000000 in
theorem wkX3_worlds {r_ : Int32} (E : EN p s m args meth c0 RX3 cX3_worlds 1 (Option.some Jvm.ClassFile.FieldType.int)) (hX : KX D G ad A s s.heap) (hD : XD dsc nr nw nu) (hA : ∀ q, PA dsc ad s.heap.size q → A q) (hf : xo_X3_worlds (σ.1 2027) = some r_) (hQ : Q = MQ below (va_G1 (some (.int r_)) (fun t => PIC D clsA G dsc ad σ t.heap) A) args s 0 0 A) (hP : PIC D clsA G dsc ad σ H) (hS : va_S A s.heap H locs) (hl : lv_has ls 1 [(0, .ref (ad 2000))]) : W p l e rmX3_worlds s m args below meth c0 H locs 0 0 Q (F0 m 0 ls []) := by
  obtain ⟨⟨hx, hb, hml, hown, hts⟩, hr, hlk⟩ := id E
  unfold xo_X3_worlds at hf
  refine lv_iconst hx hb dX3_worlds_0 ic_1 ?_
  refine lv_aload_n hx hb dX3_worlds_1 rfl (lv_at hl 0 rfl) ?_
  refine gx_X3_20_2000 E hX hD hP dX3_worlds_2 ?_
  obtain ⟨v1, u2, hf⟩ := bdP hf
  refine cx_X3_72_J2_size_Ld E hX hD hP hS hA (kxJ2_size_Ld l D G hD rfl u2) ⟨rfl, rfl⟩ ⟨Nat.le_of_ble_eq_true rfl, Nat.le_of_ble_eq_true rfl⟩ ⟨Nat.zero_le _, Nat.zero_le _⟩ hl.1 (Nat.le_of_ble_eq_true rfl) dX3_worlds_5 (fun H locs hP hS => ?_)
  refine lv_ishl hx hb dX3_worlds_8 ?_
  cases hf
  rw [hQ]; exact g_iret hx hb hr hlk hP hS dX3_worlds_9
theorem kxX3_worlds (l : Launch) (D : va_G) (G : Nat → ClassId) {dsc : Nat → Option Dsc} {ad : Nat → Nat} {σ : Sto} {nr nw nu : Nat} (hD : XD dsc nr nw nu) {r_ : Int32} {z_Ld_size : Int32} (e_zI2027 : σ.1 2027 = z_Ld_size) (hf : xo_X3_worlds z_Ld_size = some r_) : CtG l D G dsc ad yX3_worlds (ws_ yX3_worlds cX3_worlds 1 (Option.some Jvm.ClassFile.FieldType.int)) rmX3_worlds [.ref (ad 2000)] σ (some (.int r_)) σ := by
  subst e_zI2027
  exact p_ctG (by decide +kernel) (Nat.le_of_ble_eq_true rfl) (fun p e s m below meth c0 ls A E hP hX hA hS hl => wkX3_worlds E hX hD hA hf rfl hP hS hl)
theorem gx_X4_44_2000 (E : EN p s m args meth c0 RX4 cc nL ret) (hX : KX D G ad A s s.heap) (hD : XD dsc nr nw nu) (hP : PIC D clsA G dsc ad σ H) (hdg : decode cc pc = .ok (.getfield 44, 3)) (kk : W p l e R s m args below meth c0 H locs cells slots Q (F0 m (pc + 3) ls (.ref (ad 2025) :: rest))) : W p l e R s m args below meth c0 H locs cells slots Q (F0 m pc ls (.ref (ad 2000) :: rest)) :=
  p_getN E.1.1 E.1.2.1 E.1.2.2.2.2 in_X3 E.1.2.2.2.1 hX.1 hP (hD.1 _ _ dX_2000) rfl 1 (by decide) (hX.2.1.1 _ q242 rfl) (fun _ h => h) rfl rfl hdg kk
theorem cx_X4_48_J2_size_Ld {rm : Room} {σ1 : Sto} {r : Int32} (E : EN p s m args meth c0 RX4 cc nL ret) (hX : KX D G ad A s s.heap) (hD : XD dsc nr nw nu) (hP : PIC D clsA G dsc ad σ H) (hS : va_S A s.heap H locs) (hA : ∀ q, PA dsc ad s.heap.size q → A q) (hM : CtG l D G dsc ad yJ2_size (ws_ yJ2_size cJ2_size 1 (Option.some Jvm.ClassFile.FieldType.int)) rm [.ref (ad 2025)] σ (some (.int r)) σ1) (hz : rm.cells = 0 ∧ rm.slots = 0) (hR : rm.frames + 1 ≤ R.frames ∧ 8 + (1 + 11) + rm.locals ≤ R.locals) (hcs : cells ≤ R.cells ∧ slots ≤ R.slots) (hsz : ls.size = nL) (hW : (rest.map fun v => v.category).sum ≤ 8) (hdg : decode cc pc = .ok (.invokevirtual 48, 3)) (kk : ∀ (H1 : Heap) (locs1 : List Loc), PIC D clsA G dsc ad σ1 H1 → va_S A s.heap H1 locs1 → W p l e R s m args below meth c0 H1 locs1 cells slots Q (F0 m (pc + 3) ls (.int r :: rest))) : W p l e R s m args below meth c0 H locs cells slots Q (F0 m pc ls (.ref (ad 2025) :: rest)) :=
  p_gV (As := []) (rest := rest) E.1 hX hP hS hA hM (cwV 0 E.1.2.2.2.2 (lw_V q1009 q780 q781 q129 q782) rfl hz.1 hz.2 (by decide +kernel) hR) (hD.1 _ _ dX_2025) rfl rfl rfl hsz rfl hW hdg hcs kk
theorem cx_X4_72_X1_digit {rm : Room} {σ1 : Sto} {x0 : Int32} {x1 : Int32} {r : Int32} (E : EN p s m args meth c0 RX4 cc nL ret) (hX : KX D G ad A s s.heap) (hD : XD dsc nr nw nu) (hP : PIC D clsA G dsc ad σ H) (hS : va_S A s.heap H locs) (hA : ∀ q, PA dsc ad s.heap.size q → A q) (hM : CtG l D G dsc ad yX1_digit (ws_ yX1_digit cX1_digit 2 (Option.some Jvm.ClassFile.FieldType.int)) rm [.int x0, .int x1] σ (some (.int r)) σ1) (hz : rm.cells = 0 ∧ rm.slots = 0) (hR : rm.frames + 1 ≤ R.frames ∧ 8 + (2 + 11) + rm.locals ≤ R.locals) (hcs : cells ≤ R.cells ∧ slots ≤ R.slots) (hsz : ls.size = nL) (hW : (rest.map fun v => v.category).sum ≤ 8) (hdg : decode cc pc = .ok (.invokestatic 72, 3)) (kk : ∀ (H1 : Heap) (locs1 : List Loc), PIC D clsA G dsc ad σ1 H1 → va_S A s.heap H1 locs1 → W p l e R s m args below meth c0 H1 locs1 cells slots Q (F0 m (pc + 3) ls (.int r :: rest))) : W p l e R s m args below meth c0 H locs cells slots Q (F0 m pc ls (.int x1 :: .int x0 :: rest)) :=
  p_gSN (As := [.int x0, .int x1]) (rest := rest) E.1 hX hP hS hA hM ⟨va_cnB 2 E.1.2.2.2.2 (lw_meth q1038) rfl hz.1 hz.2 (hX.2.1.1 _ q1036 rfl) (E.1.2.2.2.2 _ q124) (by decide +kernel) hR, (E.1.2.2.2.2 _ q1037), trivial⟩ rfl hsz rfl hW hdg hcs kk
/-! X4_agrees (LShutPasses$Land;II)Z -/
abbrev rmX4_agrees : Room := { frames := 1, cells := 0, slots := 0, locals := 21 }
set_option maxHeartbeats 4000000 in
theorem wkX4_agrees {x1 : Int32} {x2 : Int32} {r_ : Int32} (E : EN p s m args meth c0 RX4 cX4_agrees 4 (Option.some Jvm.ClassFile.FieldType.boolean)) (hX : KX D G ad A s s.heap) (hD : XD dsc nr nw nu) (hA : ∀ q, PA dsc ad s.heap.size q → A q) (hf : xo_X4_agrees (σ.1 2027) (σ.2.2.1 1170) x1 x2 = some r_) (hQ : Q = MQ below (va_G1 (some (.int r_)) (fun t => PIC D clsA G dsc ad σ t.heap) A) args s 0 0 A) (hP : PIC D clsA G dsc ad σ H) (hS : va_S A s.heap H locs) (hl : lv_has ls 4 [(0, .ref (ad 2000)), (1, .int x1), (2, .int x2)]) : W p l e rmX4_agrees s m args below meth c0 H locs 0 0 Q (F0 m 0 ls []) := by
  obtain ⟨⟨hx, hb, hml, hown, hts⟩, hr, hlk⟩ := id E
  unfold xo_X4_agrees at hf
  refine lv_iconst hx hb dX4_agrees_0 ic_0 ?_
  refine lv_istore_n (lv' := [(3, .int 0), (0, .ref (ad 2000)), (1, .int x1), (2, .int x2)]) hx hb dX4_agrees_1 rfl hl (by decide) rfl (fun ls hl => ?_)
  have LP2 : ∀ (st2 : Int32) (ex2 : (Unit) ⊕ (Unit)), loop (xo_X4_agrees_L2 (σ.1 2027) (σ.2.2.1 1170) x1 x2) st2 = some ex2 → ∀ (H : Heap) (locs : List Loc), PIC D clsA G dsc ad σ H → va_S A s.heap H locs → ∀ (ls : Array Slot), lv_has ls 4 [(0, .ref (ad 2000)), (1, .int x1), (2, .int x2), (3, .int st2)] → (ex2 = (.inl (())) → ∀ (H : Heap) (locs : List Loc), PIC D clsA G dsc ad σ H → va_S A s.heap H locs → ∀ (ls : Array Slot), lv_has ls 4 [] → W p l e rmX4_agrees s m args below meth c0 H locs 0 0 Q (F0 m 36 ls [])) → (ex2 = (.inr ()) → ∀ (H : Heap) (locs : List Loc), PIC D clsA G dsc ad σ H → va_S A s.heap H locs → ∀ (ls : Array Slot), lv_has ls 4 [] → W p l e rmX4_agrees s m args below meth c0 H locs 0 0 Q (F0 m 44 ls [])) → W p l e rmX4_agrees s m args below meth c0 H locs 0 0 Q (F0 m 2 ls []) := by
    refine loop_P (fun st2 ex2 o2 hf ih2 hx2 => ?_)
    obtain ⟨y1, rfl⟩ : ∃ z, z = st2 := ⟨_, rfl⟩
    intro H locs (hP : PIC D clsA G dsc ad σ H) hS ls (hl : lv_has ls 4 [(0, .ref (ad 2000)), (1, .int x1), (2, .int x2), (3, .int y1)]) KE2_0 KE2_1
    dsimp only [xo_X4_agrees_L2] at hf
    refine lv_iload_n hx hb dX4_agrees_2 rfl (lv_at hl 3 rfl) ?_
    refine lv_aload_n hx hb dX4_agrees_3 rfl (lv_at hl 0 rfl) ?_
    refine gx_X4_44_2000 E hX hD hP dX4_agrees_4 ?_
    obtain ⟨v2, u3, hf⟩ := bdP hf
    refine cx_X4_48_J2_size_Ld E hX hD hP hS hA (kxJ2_size_Ld l D G hD rfl u3) ⟨rfl, rfl⟩ ⟨Nat.le_of_ble_eq_true rfl, Nat.le_of_ble_eq_true rfl⟩ ⟨Nat.zero_le _, Nat.zero_le _⟩ hl.1 (Nat.le_of_ble_eq_true rfl) dX4_agrees_7 (fun H locs hP hS => ?_)
    refine lv_icmp_ge (tgt := 44) hx hb dX4_agrees_10 (by decide) (fun c4 => ?_) (fun c4 => ?_)
    · have hf := ifT c4 hf
      exact KE2_1  (hx2 _ (Option.some.inj hf).symm).symm H locs hP hS ls (lv_sub hl [] rfl)
    · have hf := ifF c4 hf
      refine lv_iload_n hx hb dX4_agrees_13 rfl (lv_at hl 2 rfl) ?_
      refine lv_iload_n hx hb dX4_agrees_14 rfl (lv_at hl 3 rfl) ?_
      obtain ⟨v5, u6, hf⟩ := bdP hf
      refine cx_X4_72_X1_digit E hX hD hP hS hA (kxX1_digit l D G hD rfl u6) ⟨rfl, rfl⟩ ⟨Nat.le_of_ble_eq_true rfl, Nat.le_of_ble_eq_true rfl⟩ ⟨Nat.zero_le _, Nat.zero_le _⟩ hl.1 (Nat.le_of_ble_eq_true rfl) dX4_agrees_15 (fun H locs hP hS => ?_)
      have J38 : xo_X4_agrees_J38 y1 = some o2 → ∀ (H : Heap) (locs : List Loc), PIC D clsA G dsc ad σ H → va_S A s.heap H locs → ∀ (ls : Array Slot), lv_has ls 4 [(0, .ref (ad 2000)), (1, .int x1), (2, .int x2), (3, .int y1)] → W p l e rmX4_agrees s m args below meth c0 H locs 0 0 Q (F0 m 38 ls []) := by
        intro  hf H locs hP hS ls hl
        unfold xo_X4_agrees_J38 at hf
        obtain ⟨v7, hv7, hf⟩ := bdP hf
        refine lv_iinc (v := v7) (lv' := [(3, .int v7), (0, .ref (ad 2000)), (1, .int x1), (2, .int x2)]) hx hb dX4_agrees_38 hl (k := 3) rfl (Option.some.inj hv7) (by decide) rfl (fun ls hl => ?_)
        refine lv_goto (tgt := 2) hx hb dX4_agrees_41 (by decide) ?_
        exact ih2 _ (Option.some.inj hf).symm H locs hP hS ls (lv_sub hl [1, 2, 3, 0] rfl) KE2_0 KE2_1
      refine lv_if_eq (tgt := 38) hx hb dX4_agrees_18 (by decide) (fun c8 => ?_) (fun c8 => ?_)
      · have hf := ifT c8 hf
        exact J38  hf H locs hP hS ls (lv_sub hl [0, 1, 2, 3] rfl)
      · have hf := ifF c8 hf
        refine lv_iload_n hx hb dX4_agrees_21 rfl (lv_at hl 2 rfl) ?_
        refine lv_iload_n hx hb dX4_agrees_22 rfl (lv_at hl 3 rfl) ?_
        obtain ⟨v9, u10, hf⟩ := bdP hf
        refine cx_X4_72_X1_digit E hX hD hP hS hA (kxX1_digit l D G hD rfl u10) ⟨rfl, rfl⟩ ⟨Nat.le_of_ble_eq_true rfl, Nat.le_of_ble_eq_true rfl⟩ ⟨Nat.zero_le _, Nat.zero_le _⟩ hl.1 (Nat.le_of_ble_eq_true rfl) dX4_agrees_23 (fun H locs hP hS => ?_)
        refine lv_iconst hx hb dX4_agrees_26 ic_1 ?_
        refine lv_iload_n hx hb dX4_agrees_27 rfl (lv_at hl 1 rfl) ?_
        refine lv_iload_n hx hb dX4_agrees_28 rfl (lv_at hl 3 rfl) ?_
        refine lv_ishr hx hb dX4_agrees_29 ?_
        refine lv_iconst hx hb dX4_agrees_30 ic_1 ?_
        refine lv_iand hx hb dX4_agrees_31 ?_
        refine lv_iadd hx hb dX4_agrees_32 ?_
        refine lv_icmp_eq (tgt := 38) hx hb dX4_agrees_33 (by decide) (fun c11 => ?_) (fun c11 => ?_)
        · have hf := ifT c11 hf
          exact J38  hf H locs hP hS ls (lv_sub hl [0, 1, 2, 3] rfl)
        · have hf := ifF c11 hf
          exact KE2_0  (hx2 _ (Option.some.inj hf).symm).symm H locs hP hS ls (lv_sub hl [] rfl)
  obtain ⟨ex2, hlp2, hf⟩ := bdP hf
  refine LP2 0 ex2 hlp2 H locs hP hS ls (lv_sub hl [1, 2, 3, 0] rfl) ?_ ?_
  · intro  hex2 H locs hP hS ls hl
    subst ex2
    dsimp only [sE_l, sE_r] at hf
    refine lv_iconst hx hb dX4_agrees_36 ic_0 ?_
    cases hf
    rw [hQ]; exact g_nret hx hb hr hlk hP hS rfl dX4_agrees_37
  · intro  hex2 H locs hP hS ls hl
    subst ex2
    dsimp only [sE_l, sE_r] at hf
    refine lv_iconst hx hb dX4_agrees_44 ic_1 ?_
    cases hf
    rw [hQ]; exact g_nret hx hb hr hlk hP hS rfl dX4_agrees_45
theorem kxX4_agrees (l : Launch) (D : va_G) (G : Nat → ClassId) {dsc : Nat → Option Dsc} {ad : Nat → Nat} {σ : Sto} {nr nw nu : Nat} (hD : XD dsc nr nw nu) {x1 : Int32} {x2 : Int32} {r_ : Int32} {z_Ld_size : Int32} (e_zI2027 : σ.1 2027 = z_Ld_size) {a_UNIT : Nat → Int32} (e_aI1170 : σ.2.2.1 1170 = a_UNIT) (hf : xo_X4_agrees z_Ld_size a_UNIT x1 x2 = some r_) : CtG l D G dsc ad yX4_agrees (ws_ yX4_agrees cX4_agrees 4 (Option.some Jvm.ClassFile.FieldType.boolean)) rmX4_agrees [.ref (ad 2000), .int x1, .int x2] σ (some (.int r_)) σ := by
  subst e_zI2027
  subst e_aI1170
  exact p_ctG (by decide +kernel) (Nat.le_of_ble_eq_true rfl) (fun p e s m below meth c0 ls A E hP hX hA hS hl => wkX4_agrees E hX hD hA hf rfl hP hS hl)
theorem gx_X8_1_1090 (E : EN p s m args meth c0 RX8 cc nL ret) (hX : KX D G ad A s s.heap) (hD : XD dsc nr nw nu) (hP : PIC D clsA G dsc ad σ H) (hdg : decode cc pc = .ok (.getfield 1, 3)) (kk : W p l e R s m args below meth c0 H locs cells slots Q (F0 m (pc + 3) ls (.ref (ad 1000) :: rest))) : W p l e R s m args below meth c0 H locs cells slots Q (F0 m pc ls (.ref (ad 1090) :: rest)) :=
  p_get E.1.1 E.1.2.1 E.1.2.2.2.2 in_X8 E.1.2.2.2.1 hX.1 hP (hD.1 _ _ dX_1090) rfl 6 (by decide) (E.1.2.2.2.2 _ q400) (fun _ h => h) rfl rfl hdg kk
theorem gx_X8_19_1000 (E : EN p s m args meth c0 RX8 cc nL ret) (hX : KX D G ad A s s.heap) (hD : XD dsc nr nw nu) (hP : PIC D clsA G dsc ad σ H) (hdg : decode cc pc = .ok (.getfield 19, 3)) (kk : W p l e R s m args below meth c0 H locs cells slots Q (F0 m (pc + 3) ls (.ref (ad 2000) :: rest))) : W p l e R s m args below meth c0 H locs cells slots Q (F0 m pc ls (.ref (ad 1000) :: rest)) :=
  p_getN E.1.1 E.1.2.1 E.1.2.2.2.2 in_X1 E.1.2.2.2.1 hX.1 hP (hD.1 _ _ dX_1000) rfl 5 (by decide) (hX.2.1.1 _ q508 rfl) (fun _ h => h) rfl rfl hdg kk
theorem cx_X8_25_X3_worlds {rm : Room} {σ1 : Sto} {r : Int32} (E : EN p s m args meth c0 RX8 cc nL ret) (hX : KX D G ad A s s.heap) (hD : XD dsc nr nw nu) (hP : PIC D clsA G dsc ad σ H) (hS : va_S A s.heap H locs) (hA : ∀ q, PA dsc ad s.heap.size q → A q) (hM : CtG l D G dsc ad yX3_worlds (ws_ yX3_worlds cX3_worlds 1 (Option.some Jvm.ClassFile.FieldType.int)) rm [.ref (ad 2000)] σ (some (.int r)) σ1) (hz : rm.cells = 0 ∧ rm.slots = 0) (hR : rm.frames + 1 ≤ R.frames ∧ 8 + (1 + 11) + rm.locals ≤ R.locals) (hcs : cells ≤ R.cells ∧ slots ≤ R.slots) (hsz : ls.size = nL) (hW : (rest.map fun v => v.category).sum ≤ 8) (hdg : decode cc pc = .ok (.invokevirtual 25, 3)) (kk : ∀ (H1 : Heap) (locs1 : List Loc), PIC D clsA G dsc ad σ1 H1 → va_S A s.heap H1 locs1 → W p l e R s m args below meth c0 H1 locs1 cells slots Q (F0 m (pc + 3) ls (.int r :: rest))) : W p l e R s m args below meth c0 H locs cells slots Q (F0 m pc ls (.ref (ad 2000) :: rest)) :=
  p_gV (As := []) (rest := rest) E.1 hX hP hS hA hM (cwV 0 E.1.2.2.2.2 (lw_V q1076 q992 q993 q126 q994) rfl hz.1 hz.2 (by decide +kernel) hR) (hD.1 _ _ dX_2000) rfl rfl rfl hsz rfl hW hdg hcs kk
theorem gx_X8_31_1090 {v : Int32} (E : EN p s m args meth c0 RX8 cc nL ret) (hX : KX D G ad A s s.heap) (hD : XD dsc nr nw nu) (hP : PIC D clsA G dsc ad σ H) (hv : σ.1 1092 = v) (hdg : decode cc pc = .ok (.getfield 31, 3)) (kk : W p l e R s m args below meth c0 H locs cells slots Q (F0 m (pc + 3) ls (va_rf (drf ad 1050 v) :: rest))) : W p l e R s m args below meth c0 H locs cells slots Q (F0 m pc ls (.ref (ad 1090) :: rest)) :=
  p_get E.1.1 E.1.2.1 E.1.2.2.2.2 in_X8 E.1.2.2.2.1 hX.1 hP (hD.1 _ _ dX_1090) rfl 2 (by decide) (E.1.2.2.2.2 _ q359) (fun x h => u_same (E.1.2.2.2.2 _ q360) x h) rfl (congrArg (fun z => va_rf (drf ad 1050 z)) hv) hdg kk
theorem gx_X8_35_1050 (E : EN p s m args meth c0 RX8 cc nL ret) (hX : KX D G ad A s s.heap) (hD : XD dsc nr nw nu) (hP : PIC D clsA G dsc ad σ H) (hdg : decode cc pc = .ok (.getfield 35, 3)) (kk : W p l e R s m args below meth c0 H locs cells slots Q (F0 m (pc + 3) ls (.ref (ad 1140) :: rest))) : W p l e R s m args below meth c0 H locs cells slots Q (F0 m pc ls (.ref (ad 1050) :: rest)) :=
  p_getN E.1.1 E.1.2.1 E.1.2.2.2.2 in_X4 E.1.2.2.2.1 hX.1 hP (hD.1 _ _ dX_1050) rfl 0 (by decide) (hX.2.1.1 _ q324 rfl) (fun _ h => h) rfl rfl hdg kk
theorem cx_X8_41_X4_agrees {rm : Room} {σ1 : Sto} {x1 : Int32} {x2 : Int32} {r : Int32} (E : EN p s m args meth c0 RX8 cc nL ret) (hX : KX D G ad A s s.heap) (hD : XD dsc nr nw nu) (hP : PIC D clsA G dsc ad σ H) (hS : va_S A s.heap H locs) (hA : ∀ q, PA dsc ad s.heap.size q → A q) (hM : CtG l D G dsc ad yX4_agrees (ws_ yX4_agrees cX4_agrees 4 (Option.some Jvm.ClassFile.FieldType.boolean)) rm [.ref (ad 2000), .int x1, .int x2] σ (some (.int r)) σ1) (hz : rm.cells = 0 ∧ rm.slots = 0) (hR : rm.frames + 1 ≤ R.frames ∧ 8 + (4 + 11) + rm.locals ≤ R.locals) (hcs : cells ≤ R.cells ∧ slots ≤ R.slots) (hsz : ls.size = nL) (hW : (rest.map fun v => v.category).sum ≤ 8) (hdg : decode cc pc = .ok (.invokestatic 41, 3)) (kk : ∀ (H1 : Heap) (locs1 : List Loc), PIC D clsA G dsc ad σ1 H1 → va_S A s.heap H1 locs1 → W p l e R s m args below meth c0 H1 locs1 cells slots Q (F0 m (pc + 3) ls (.int r :: rest))) : W p l e R s m args below meth c0 H locs cells slots Q (F0 m pc ls (.int x2 :: .int x1 :: .ref (ad 2000) :: rest)) :=
  p_gS (As := [.ref (ad 2000), .int x1, .int x2]) (rest := rest) E.1 hX hP hS hA hM (va_cwS 3 E.1.2.2.2.2 (lw_S q1077 q1034 q130 q1035) rfl hz.1 hz.2 (by decide +kernel) hR) rfl hsz rfl hW hdg hcs kk
theorem gx_X8_45_1090 {v : Int32} (E : EN p s m args meth c0 RX8 cc nL ret) (hX : KX D G ad A s s.heap) (hD : XD dsc nr nw nu) (hP : PIC D clsA G dsc ad σ H) (hv : σ.1 1094 = v) (hdg : decode cc pc = .ok (.getfield 45, 3)) (kk : W p l e R s m args below meth c0 H locs cells slots Q (F0 m (pc + 3) ls (.int v :: rest))) : W p l e R s m args below meth c0 H locs cells slots Q (F0 m pc ls (.ref (ad 1090) :: rest)) :=
  p_get E.1.1 E.1.2.1 E.1.2.2.2.2 in_X8 E.1.2.2.2.1 hX.1 hP (hD.1 _ _ dX_1090) rfl 4 (by decide) (E.1.2.2.2.2 _ q398) (fun _ h => h) rfl (congrArg Value.int hv) hdg kk
theorem gx_X8_49_1000 (E : EN p s m args meth c0 RX8 cc nL ret) (hX : KX D G ad A s s.heap) (hD : XD dsc nr nw nu) (hP : PIC D clsA G dsc ad σ H) (hdg : decode cc pc = .ok (.getfield 49, 3)) (kk : W p l e R s m args below meth c0 H locs cells slots Q (F0 m (pc + 3) ls (.ref (ad 1108) :: rest))) : W p l e R s m args below meth c0 H locs cells slots Q (F0 m pc ls (.ref (ad 1000) :: rest)) :=
  p_getN E.1.1 E.1.2.1 E.1.2.2.2.2 in_X1 E.1.2.2.2.1 hX.1 hP (hD.1 _ _ dX_1000) rfl 8 (by decide) (hX.2.1.1 _ q518 rfl) (fun _ h => h) rfl rfl hdg kk
theorem gx_X8_53_1090 {v : Int32} (E : EN p s m args meth c0 RX8 cc nL ret) (hX : KX D G ad A s s.heap) (hD : XD dsc nr nw nu) (hP : PIC D clsA G dsc ad σ H) (hv : σ.1 1095 = v) (hdg : decode cc pc = .ok (.getfield 53, 3)) (kk : W p l e R s m args below meth c0 H locs cells slots Q (F0 m (pc + 3) ls (.int v :: rest))) : W p l e R s m args below meth c0 H locs cells slots Q (F0 m pc ls (.ref (ad 1090) :: rest)) :=
  p_get E.1.1 E.1.2.1 E.1.2.2.2.2 in_X8 E.1.2.2.2.1 hX.1 hP (hD.1 _ _ dX_1090) rfl 5 (by decide) (E.1.2.2.2.2 _ q399) (fun _ h => h) rfl (congrArg Value.int hv) hdg kk
/-! X8_end_TF (I)J -/
abbrev rmX8_end_TF : Room := { frames := 2, cells := 0, slots := 0, locals := 44 }
set_option maxHeartbeats 4000000 in
theorem wkX8_end_TF {x1 : Int32} {r_ : Int64} (E : EN p s m args meth c0 RX8 cX8_end 5 (Option.some Jvm.ClassFile.FieldType.long)) (hX : KX D G ad A s s.heap) (hD : XD dsc nr nw nu) (hA : ∀ q, PA dsc ad s.heap.size q → A q) (hf : xo_X8_end_TF (σ.1 1092) (σ.1 1094) (σ.1 1095) (σ.1 2027) (σ.2.2.1 1108) (σ.2.2.1 1170) (σ.2.2.2.1 1140) x1 = some r_) (hQ : Q = MQ below (va_G1 (some (.long r_)) (fun t => PIC D clsA G dsc ad σ t.heap) A) args s 0 0 A) (hP : PIC D clsA G dsc ad σ H) (hS : va_S A s.heap H locs) (hl : lv_has ls 5 [(0, .ref (ad 1090)), (1, .int x1)]) : W p l e rmX8_end_TF s m args below meth c0 H locs 0 0 Q (F0 m 0 ls []) := by
  obtain ⟨⟨hx, hb, hml, hown, hts⟩, hr, hlk⟩ := id E
  unfold xo_X8_end_TF at hf
  refine lv_ldc2 hx hb hown (hts _ q1075) dX8_end_0 ?_
  refine lv_lstore_n (lv' := [(2, .long 9223372036854775807), (0, .ref (ad 1090)), (1, .int x1)]) hx hb dX8_end_3 rfl hl (by decide) rfl (fun ls hl => ?_)
  refine lv_iconst hx hb dX8_end_4 ic_0 ?_
  refine lv_istore (lv' := [(4, .int 0), (2, .long 9223372036854775807), (0, .ref (ad 1090)), (1, .int x1)]) hx hb dX8_end_5 hl (by decide) rfl (fun ls hl => ?_)
  have LP7 : ∀ (st7 : Int64 × Int32) (ex7 : (Int64)), loop (xo_X8_end_TF_L7 (σ.1 1092) (σ.1 1094) (σ.1 1095) (σ.1 2027) (σ.2.2.1 1108) (σ.2.2.1 1170) (σ.2.2.2.1 1140) x1) st7 = some ex7 → ∀ (H : Heap) (locs : List Loc), PIC D clsA G dsc ad σ H → va_S A s.heap H locs → ∀ (ls : Array Slot), lv_has ls 5 [(0, .ref (ad 1090)), (1, .int x1), (2, .long (st7.1)), (4, .int (st7.2))] → (∀ (y17 : Int64), ex7 = y17 → ∀ (H : Heap) (locs : List Loc), PIC D clsA G dsc ad σ H → va_S A s.heap H locs → ∀ (ls : Array Slot), lv_has ls 5 [(2, .long y17)] → W p l e rmX8_end_TF s m args below meth c0 H locs 0 0 Q (F0 m 87 ls [])) → W p l e rmX8_end_TF s m args below meth c0 H locs 0 0 Q (F0 m 7 ls []) := by
    refine loop_P (fun st7 ex7 o7 hf ih7 hx7 => ?_)
    obtain ⟨y1, y2⟩ := st7
    intro H locs (hP : PIC D clsA G dsc ad σ H) hS ls (hl : lv_has ls 5 [(0, .ref (ad 1090)), (1, .int x1), (2, .long y1), (4, .int y2)]) KE7_0
    dsimp only [xo_X8_end_TF_L7] at hf
    refine lv_iload hx hb dX8_end_7 (lv_at hl 3 rfl) ?_
    refine lv_aload_n hx hb dX8_end_9 rfl (lv_at hl 0 rfl) ?_
    refine gx_X8_1_1090 E hX hD hP dX8_end_10 ?_
    refine gx_X8_19_1000 E hX hD hP dX8_end_13 ?_
    obtain ⟨v3, u4, hf⟩ := bdP hf
    refine cx_X8_25_X3_worlds E hX hD hP hS hA (kxX3_worlds l D G hD rfl u4) ⟨rfl, rfl⟩ ⟨Nat.le_of_ble_eq_true rfl, Nat.le_of_ble_eq_true rfl⟩ ⟨Nat.zero_le _, Nat.zero_le _⟩ hl.1 (Nat.le_of_ble_eq_true rfl) dX8_end_16 (fun H locs hP hS => ?_)
    refine lv_icmp_ge (tgt := 87) hx hb dX8_end_19 (by decide) (fun c5 => ?_) (fun c5 => ?_)
    · have hf := ifT c5 hf
      exact KE7_0 _ (hx7 _ (Option.some.inj hf).symm).symm H locs hP hS ls (lv_sub hl [2] rfl)
    · have hf := ifF c5 hf
      refine lv_aload_n hx hb dX8_end_22 rfl (lv_at hl 0 rfl) ?_
      refine gx_X8_31_1090 (v := (σ.1 1092)) E hX hD hP rfl dX8_end_23 ?_
      obtain ⟨v6, hv6, hf⟩ := bdP hf
      refine p_nn0 (ckz_some hv6) ?_
      refine gx_X8_35_1050 E hX hD hP dX8_end_26 ?_
      refine lv_iload hx hb dX8_end_29 (lv_at hl 3 rfl) ?_
      obtain ⟨v7, hv7, hf⟩ := bdP hf
      refine p_lald hx hb hX.1 hP (hD.1 _ _ dX_1140) rfl hv7 dX8_end_31 ?_
      refine lv_lconst hx hb dX8_end_32 lc_0 ?_
      refine W.lcmp hx hb dX8_end_33 ?_
      have J81 : ∀ (y8 : Int64), xo_X8_end_TF_J81 y2 y8 = some o7 → ∀ (H : Heap) (locs : List Loc), PIC D clsA G dsc ad σ H → va_S A s.heap H locs → ∀ (ls : Array Slot), lv_has ls 5 [(0, .ref (ad 1090)), (1, .int x1), (2, .long y8), (4, .int y2)] → W p l e rmX8_end_TF s m args below meth c0 H locs 0 0 Q (F0 m 81 ls []) := by
        intro y8 hf H locs hP hS ls hl
        unfold xo_X8_end_TF_J81 at hf
        obtain ⟨v9, hv9, hf⟩ := bdP hf
        refine lv_iinc (v := v9) (lv' := [(4, .int v9), (0, .ref (ad 1090)), (1, .int x1), (2, .long y8)]) hx hb dX8_end_81 hl (k := 3) rfl (Option.some.inj hv9) (by decide) rfl (fun ls hl => ?_)
        refine lv_goto (tgt := 7) hx hb dX8_end_84 (by decide) ?_
        exact ih7 _ (Option.some.inj hf).symm H locs hP hS ls (lv_sub hl [1, 2, 3, 0] rfl) KE7_0
      refine lv_if_le (tgt := 81) hx hb dX8_end_34 (by decide) (fun c10 => ?_) (fun c10 => ?_)
      · have hf := ifT ((lgc_le _ _).mp c10) hf
        exact J81 y1 hf H locs hP hS ls (lv_sub hl [0, 1, 2, 3] rfl)
      · have hf := ifF (mt (lgc_le _ _).mpr c10) hf
        refine lv_aload_n hx hb dX8_end_37 rfl (lv_at hl 0 rfl) ?_
        refine gx_X8_1_1090 E hX hD hP dX8_end_38 ?_
        refine gx_X8_19_1000 E hX hD hP dX8_end_41 ?_
        refine lv_iload hx hb dX8_end_44 (lv_at hl 3 rfl) ?_
        refine lv_iload_n hx hb dX8_end_46 rfl (lv_at hl 1 rfl) ?_
        obtain ⟨v11, u12, hf⟩ := bdP hf
        refine cx_X8_41_X4_agrees E hX hD hP hS hA (kxX4_agrees l D G hD rfl rfl u12) ⟨rfl, rfl⟩ ⟨Nat.le_of_ble_eq_true rfl, Nat.le_of_ble_eq_true rfl⟩ ⟨Nat.zero_le _, Nat.zero_le _⟩ hl.1 (Nat.le_of_ble_eq_true rfl) dX8_end_47 (fun H locs hP hS => ?_)
        refine lv_if_eq (tgt := 81) hx hb dX8_end_50 (by decide) (fun c13 => ?_) (fun c13 => ?_)
        · have hf := ifT c13 hf
          exact J81 y1 hf H locs hP hS ls (lv_sub hl [0, 1, 2, 3] rfl)
        · have hf := ifF c13 hf
          refine lv_lload_n hx hb dX8_end_53 rfl (lv_at hl 2 rfl) ?_
          refine lv_aload_n hx hb dX8_end_54 rfl (lv_at hl 0 rfl) ?_
          refine gx_X8_45_1090 (v := (σ.1 1094)) E hX hD hP rfl dX8_end_55 ?_
          refine lv_i2l hx hb dX8_end_58 rfl ?_
          refine lv_aload_n hx hb dX8_end_59 rfl (lv_at hl 0 rfl) ?_
          refine gx_X8_1_1090 E hX hD hP dX8_end_60 ?_
          refine gx_X8_49_1000 E hX hD hP dX8_end_63 ?_
          refine lv_iload hx hb dX8_end_66 (lv_at hl 3 rfl) ?_
          obtain ⟨v14, hv14, hf⟩ := bdP hf
          refine p_iald hx hb hX.1 hP (hD.1 _ _ dX_1108) rfl hv14 dX8_end_68 ?_
          refine lv_i2l hx hb dX8_end_69 rfl ?_
          refine lv_lmul hx hb dX8_end_70 ?_
          refine lv_aload_n hx hb dX8_end_71 rfl (lv_at hl 0 rfl) ?_
          refine gx_X8_53_1090 (v := (σ.1 1095)) E hX hD hP rfl dX8_end_72 ?_
          refine lv_i2l hx hb dX8_end_75 rfl ?_
          obtain ⟨v15, hv15, hf⟩ := bdP hf
          refine lv_ldiv hx hb dX8_end_76 (dvL_some hv15).1 ?_
          refine nm_l (dvL_some hv15).2 ?_
          refine va_mmin_long hx hb (hml.trans hl.1.symm) hown (hts _ q1078) (hts _ q1079) (hts _ q152) (hts _ q1080) (Nat.le_of_ble_eq_true rfl) (Nat.le_of_ble_eq_true rfl) (Nat.zero_le _) (Nat.zero_le _) dX8_end_77 ?_
          obtain ⟨v16, hv16, hf⟩ := bdP hf
          refine nm_l (Option.some.inj hv16) ?_
          refine lv_lstore_n (lv' := [(2, .long v16), (0, .ref (ad 1090)), (1, .int x1), (4, .int y2)]) hx hb dX8_end_80 rfl hl (by decide) rfl (fun ls hl => ?_)
          exact J81 v16 hf H locs hP hS ls (lv_sub hl [1, 2, 0, 3] rfl)
  obtain ⟨ex7, hlp7, hf⟩ := bdP hf
  refine LP7 (9223372036854775807, 0) ex7 hlp7 H locs hP hS ls (lv_sub hl [2, 3, 1, 0] rfl) ?_
  intro y17 hex7 H locs hP hS ls hl
  subst ex7
  refine lv_lload_n hx hb dX8_end_87 rfl (lv_at hl 0 rfl) ?_
  cases hf
  rw [hQ]; exact g_lret hx hb hr hlk hP hS dX8_end_88
theorem kxX8_end_TF (l : Launch) (D : va_G) (G : Nat → ClassId) {dsc : Nat → Option Dsc} {ad : Nat → Nat} {σ : Sto} {nr nw nu : Nat} (hD : XD dsc nr nw nu) {x1 : Int32} {r_ : Int64} {z_TF_by : Int32} (e_zI1092 : σ.1 1092 = z_TF_by) {z_TF_times : Int32} (e_zI1094 : σ.1 1094 = z_TF_times) {z_TF_of : Int32} (e_zI1095 : σ.1 1095 = z_TF_of) {z_Ld_size : Int32} (e_zI2027 : σ.1 2027 = z_Ld_size) {a_X_knowing : Nat → Int32} (e_aI1108 : σ.2.2.1 1108 = a_X_knowing) {a_UNIT : Nat → Int32} (e_aI1170 : σ.2.2.1 1170 = a_UNIT) {a_W_world : Nat → Int64} (e_aL1140 : σ.2.2.2.1 1140 = a_W_world) (hf : xo_X8_end_TF z_TF_by z_TF_times z_TF_of z_Ld_size a_X_knowing a_UNIT a_W_world x1 = some r_) : CtG l D G dsc ad yX8_end (ws_ yX8_end cX8_end 5 (Option.some Jvm.ClassFile.FieldType.long)) rmX8_end_TF [.ref (ad 1090), .int x1] σ (some (.long r_)) σ := by
  subst e_zI1092
  subst e_zI1094
  subst e_zI1095
  subst e_zI2027
  subst e_aI1108
  subst e_aI1170
  subst e_aL1140
  exact p_ctG (by decide +kernel) (Nat.le_of_ble_eq_true rfl) (fun p e s m below meth c0 ls A E hP hX hA hS hl => wkX8_end_TF E hX hD hA hf rfl hP hS hl)
/-! X8_both_TF (JJ)J -/
abbrev rmX8_both_TF : Room := { frames := 1, cells := 0, slots := 0, locals := 23 }
set_option maxHeartbeats 4000000 in
theorem wkX8_both_TF {x1 : Int64} {x3 : Int64} {r_ : Int64} (E : EN p s m args meth c0 RX8 cX8_both 5 (Option.some Jvm.ClassFile.FieldType.long)) (hX : KX D G ad A s s.heap) (hD : XD dsc nr nw nu) (hA : ∀ q, PA dsc ad s.heap.size q → A q) (hf : xo_X8_both_TF x1 x3 = some r_) (hQ : Q = MQ below (va_G1 (some (.long r_)) (fun t => PIC D clsA G dsc ad σ t.heap) A) args s 0 0 A) (hP : PIC D clsA G dsc ad σ H) (hS : va_S A s.heap H locs) (hl : lv_has ls 5 [(0, .ref (ad 1090)), (1, .long x1), (3, .long x3)]) : W p l e rmX8_both_TF s m args below meth c0 H locs 0 0 Q (F0 m 0 ls []) := by
  obtain ⟨⟨hx, hb, hml, hown, hts⟩, hr, hlk⟩ := id E
  unfold xo_X8_both_TF at hf
  refine lv_lload_n hx hb dX8_both_0 rfl (lv_at hl 1 rfl) ?_
  refine lv_lload_n hx hb dX8_both_1 rfl (lv_at hl 2 rfl) ?_
  refine va_mmin_long hx hb (hml.trans hl.1.symm) hown (hts _ q1078) (hts _ q1079) (hts _ q152) (hts _ q1080) (Nat.le_of_ble_eq_true rfl) (Nat.le_of_ble_eq_true rfl) (Nat.zero_le _) (Nat.zero_le _) dX8_both_2 ?_
  obtain ⟨v1, hv1, hf⟩ := bdP hf
  refine nm_l (Option.some.inj hv1) ?_
  cases hf
  rw [hQ]; exact g_lret hx hb hr hlk hP hS dX8_both_5
theorem kxX8_both_TF (l : Launch) (D : va_G) (G : Nat → ClassId) {dsc : Nat → Option Dsc} {ad : Nat → Nat} {σ : Sto} {nr nw nu : Nat} (hD : XD dsc nr nw nu) {x1 : Int64} {x3 : Int64} {r_ : Int64} (hf : xo_X8_both_TF x1 x3 = some r_) : CtG l D G dsc ad yX8_both (ws_ yX8_both cX8_both 5 (Option.some Jvm.ClassFile.FieldType.long)) rmX8_both_TF [.ref (ad 1090), .long x1, .long x3] σ (some (.long r_)) σ := by
  exact p_ctG (by decide +kernel) (Nat.le_of_ble_eq_true rfl) (fun p e s m below meth c0 ls A E hP hX hA hS hl => wkX8_both_TF E hX hD hA hf rfl hP hS hl)
theorem cx_X5_125_X5_shown_TF {rm : Room} {σ1 : Sto} {x1 : Int32} {x2 : Int32} {x3 : Int32} {x4 : Int32} {x5 : Int32} {r : Int64} (E : EN p s m args meth c0 RX5 cc nL ret) (hX : KX D G ad A s s.heap) (hD : XD dsc nr nw nu) (hP : PIC D clsA G dsc ad σ H) (hS : va_S A s.heap H locs) (hA : ∀ q, PA dsc ad s.heap.size q → A q) (hM : CtG l D G dsc ad yX5_shown (ws_ yX5_shown cX5_shown 6 (Option.some Jvm.ClassFile.FieldType.long)) rm [.ref (ad 1090), .int x1, .int x2, .int x3, .int x4, .int x5] σ (some (.long r)) σ1) (hz : rm.cells = 0 ∧ rm.slots = 0) (hR : rm.frames + 1 ≤ R.frames ∧ 8 + (6 + 11) + rm.locals ≤ R.locals) (hcs : cells ≤ R.cells ∧ slots ≤ R.slots) (hsz : ls.size = nL) (hW : (rest.map fun v => v.category).sum ≤ 8) (hdg : decode cc pc = .ok (.invokevirtual 125, 3)) (kk : ∀ (H1 : Heap) (locs1 : List Loc), PIC D clsA G dsc ad σ1 H1 → va_S A s.heap H1 locs1 → W p l e R s m args below meth c0 H1 locs1 cells slots Q (F0 m (pc + 3) ls (.long r :: rest))) : W p l e R s m args below meth c0 H locs cells slots Q (F0 m pc ls (.int x5 :: .int x4 :: .int x3 :: .int x2 :: .int x1 :: .ref (ad 1090) :: rest)) :=
  p_gU (As := [.int x1, .int x2, .int x3, .int x4, .int x5]) (rest := rest) E.1 hX hP hS hA hM (cw_any (owner := "ShutPasses$Table") (x := ⟨"ShutPasses$Table", "shown", "(IIIII)J"⟩) (y := yX5_shown) (C := "ShutPasses$Spare") (index := 125) (own := RX5) 5 E.1.2.2.2.2 (lw_meth q1136) rfl hz.1 hz.2 (E.1.2.2.2.2 _ q1133) (E.1.2.2.2.2 _ q2281) (va_Decl.of (E.1.2.2.2.2 _ q1135) (E.1.2.2.2.2 _ q1136)) (va_Nw.use rfl (hX.2.1.2 ("ShutPasses$Spare", yX5_shown) (by decide +kernel))) (E.1.2.2.2.2 _ q1135) (E.1.2.2.2.2 _ q131) (by decide +kernel) hR) (hD.1 _ _ dX_1090) rfl rfl rfl hsz rfl hW hdg hcs kk
theorem gx_X5_23_1090 {v : Int32} (E : EN p s m args meth c0 RX5 cc nL ret) (hX : KX D G ad A s s.heap) (hD : XD dsc nr nw nu) (hP : PIC D clsA G dsc ad σ H) (hv : σ.1 1092 = v) (hdg : decode cc pc = .ok (.getfield 23, 3)) (kk : W p l e R s m args below meth c0 H locs cells slots Q (F0 m (pc + 3) ls (va_rf (drf ad 1050 v) :: rest))) : W p l e R s m args below meth c0 H locs cells slots Q (F0 m pc ls (.ref (ad 1090) :: rest)) :=
  p_get E.1.1 E.1.2.1 E.1.2.2.2.2 in_X8 E.1.2.2.2.1 hX.1 hP (hD.1 _ _ dX_1090) rfl 2 (by decide) (E.1.2.2.2.2 _ q363) (fun _ h => h) rfl (congrArg (fun z => va_rf (drf ad 1050 z)) hv) hdg kk
theorem gx_X5_19_1090 {v : Int64} (E : EN p s m args meth c0 RX5 cc nL ret) (hX : KX D G ad A s s.heap) (hD : XD dsc nr nw nu) (hP : PIC D clsA G dsc ad σ H) (hv : σ.2.1 1091 = v) (hdg : decode cc pc = .ok (.getfield 19, 3)) (kk : W p l e R s m args below meth c0 H locs cells slots Q (F0 m (pc + 3) ls (.long v :: rest))) : W p l e R s m args below meth c0 H locs cells slots Q (F0 m pc ls (.ref (ad 1090) :: rest)) :=
  p_get E.1.1 E.1.2.1 E.1.2.2.2.2 in_X8 E.1.2.2.2.1 hX.1 hP (hD.1 _ _ dX_1090) rfl 1 (by decide) (E.1.2.2.2.2 _ q353) (fun _ h => h) rfl (congrArg Value.long hv) hdg kk
theorem cx_X5_132_X8_both_TF {rm : Room} {σ1 : Sto} {x1 : Int64} {x3 : Int64} {r : Int64} (E : EN p s m args meth c0 RX5 cc nL ret) (hX : KX D G ad A s s.heap) (hD : XD dsc nr nw nu) (hP : PIC D clsA G dsc ad σ H) (hS : va_S A s.heap H locs) (hA : ∀ q, PA dsc ad s.heap.size q → A q) (hM : CtG l D G dsc ad yX8_both (ws_ yX8_both cX8_both 5 (Option.some Jvm.ClassFile.FieldType.long)) rm [.ref (ad 1090), .long x1, .long x3] σ (some (.long r)) σ1) (hz : rm.cells = 0 ∧ rm.slots = 0) (hR : rm.frames + 1 ≤ R.frames ∧ 8 + (5 + 11) + rm.locals ≤ R.locals) (hcs : cells ≤ R.cells ∧ slots ≤ R.slots) (hsz : ls.size = nL) (hW : (rest.map fun v => v.category).sum ≤ 8) (hdg : decode cc pc = .ok (.invokevirtual 132, 3)) (kk : ∀ (H1 : Heap) (locs1 : List Loc), PIC D clsA G dsc ad σ1 H1 → va_S A s.heap H1 locs1 → W p l e R s m args below meth c0 H1 locs1 cells slots Q (F0 m (pc + 3) ls (.long r :: rest))) : W p l e R s m args below meth c0 H locs cells slots Q (F0 m pc ls (.long x3 :: .long x1 :: .ref (ad 1090) :: rest)) :=
  p_gU (As := [.long x1, .long x3]) (rest := rest) E.1 hX hP hS hA hM (cw_any (owner := "ShutPasses$Table") (x := ⟨"ShutPasses$Table", "both", "(JJ)J"⟩) (y := yX8_both) (C := "ShutPasses$Spare") (index := 132) (own := RX5) 2 E.1.2.2.2.2 (lw_meth q1154) rfl hz.1 hz.2 (E.1.2.2.2.2 _ q1140) (E.1.2.2.2.2 _ q1142) (va_Decl.abs (hX.2.1.1 _ q1141 rfl)) (E.1.2.2.2.2 _ q1152) (E.1.2.2.2.2 _ q1153) (E.1.2.2.2.2 _ q134) (by decide +kernel) hR) (hD.1 _ _ dX_1090) rfl rfl rfl hsz rfl hW hdg hcs kk
theorem cx_X5_117_X5_arrived_TF {rm : Room} {σ1 : Sto} {x1 : Int32} {x2 : Int32} {r : Int64} (E : EN p s m args meth c0 RX5 cc nL ret) (hX : KX D G ad A s s.heap) (hD : XD dsc nr nw nu) (hP : PIC D clsA G dsc ad σ H) (hS : va_S A s.heap H locs) (hA : ∀ q, PA dsc ad s.heap.size q → A q) (hM : CtG l D G dsc ad yX5_arrived (ws_ yX5_arrived cX5_arrived 3 (Option.some Jvm.ClassFile.FieldType.long)) rm [.ref (ad 1090), .int x1, .int x2] σ (some (.long r)) σ1) (hz : rm.cells = 0 ∧ rm.slots = 0) (hR : rm.frames + 1 ≤ R.frames ∧ 8 + (3 + 11) + rm.locals ≤ R.locals) (hcs : cells ≤ R.cells ∧ slots ≤ R.slots) (hsz : ls.size = nL) (hW : (rest.map fun v => v.category).sum ≤ 8) (hdg : decode cc pc = .ok (.invokevirtual 117, 3)) (kk : ∀ (H1 : Heap) (locs1 : List Loc), PIC D clsA G dsc ad σ1 H1 → va_S A s.heap H1 locs1 → W p l e R s m args below meth c0 H1 locs1 cells slots Q (F0 m (pc + 3) ls (.long r :: rest))) : W p l e R s m args below meth c0 H locs cells slots Q (F0 m pc ls (.int x2 :: .int x1 :: .ref (ad 1090) :: rest)) :=
  p_gU (As := [.int x1, .int x2]) (rest := rest) E.1 hX hP hS hA hM (cw_any (owner := "ShutPasses$Table") (x := ⟨"ShutPasses$Table", "arrived", "(II)J"⟩) (y := yX5_arrived) (C := "ShutPasses$Spare") (index := 117) (own := RX5) 2 E.1.2.2.2.2 (lw_meth q1128) rfl hz.1 hz.2 (E.1.2.2.2.2 _ q1125) (E.1.2.2.2.2 _ q2280) (va_Decl.of (E.1.2.2.2.2 _ q1127) (E.1.2.2.2.2 _ q1128)) (va_Nw.use rfl (hX.2.1.2 ("ShutPasses$Spare", yX5_arrived) (by decide +kernel))) (E.1.2.2.2.2 _ q1127) (E.1.2.2.2.2 _ q131) (by decide +kernel) hR) (hD.1 _ _ dX_1090) rfl rfl rfl hsz rfl hW hdg hcs kk
theorem cx_X5_114_X5_over_TF {rm : Room} {σ1 : Sto} {x1 : Int32} {x2 : Int32} {x3 : Int32} {r : Int64} (E : EN p s m args meth c0 RX5 cc nL ret) (hX : KX D G ad A s s.heap) (hD : XD dsc nr nw nu) (hP : PIC D clsA G dsc ad σ H) (hS : va_S A s.heap H locs) (hA : ∀ q, PA dsc ad s.heap.size q → A q) (hM : CtG l D G dsc ad yX5_over (ws_ yX5_over cX5_over 9 (Option.some Jvm.ClassFile.FieldType.long)) rm [.ref (ad 1090), .int x1, .int x2, .int x3] σ (some (.long r)) σ1) (hz : rm.cells = 0 ∧ rm.slots = 0) (hR : rm.frames + 1 ≤ R.frames ∧ 8 + (9 + 11) + rm.locals ≤ R.locals) (hcs : cells ≤ R.cells ∧ slots ≤ R.slots) (hsz : ls.size = nL) (hW : (rest.map fun v => v.category).sum ≤ 8) (hdg : decode cc pc = .ok (.invokevirtual 114, 3)) (kk : ∀ (H1 : Heap) (locs1 : List Loc), PIC D clsA G dsc ad σ1 H1 → va_S A s.heap H1 locs1 → W p l e R s m args below meth c0 H1 locs1 cells slots Q (F0 m (pc + 3) ls (.long r :: rest))) : W p l e R s m args below meth c0 H locs cells slots Q (F0 m pc ls (.int x3 :: .int x2 :: .int x1 :: .ref (ad 1090) :: rest)) :=
  p_gU (As := [.int x1, .int x2, .int x3]) (rest := rest) E.1 hX hP hS hA hM (cw_any (owner := "ShutPasses$Table") (x := ⟨"ShutPasses$Table", "over", "(III)J"⟩) (y := yX5_over) (C := "ShutPasses$Spare") (index := 114) (own := RX5) 3 E.1.2.2.2.2 (lw_meth q1124) rfl hz.1 hz.2 (E.1.2.2.2.2 _ q1118) (E.1.2.2.2.2 _ q1120) (va_Decl.of (E.1.2.2.2.2 _ q1119) (E.1.2.2.2.2 _ q1124)) (E.1.2.2.2.2 _ q1123) (E.1.2.2.2.2 _ q1119) (E.1.2.2.2.2 _ q131) (by decide +kernel) hR) (hD.1 _ _ dX_1090) rfl rfl rfl hsz rfl hW hdg hcs kk
theorem gx_X5_3_1090 (E : EN p s m args meth c0 RX5 cc nL ret) (hX : KX D G ad A s s.heap) (hD : XD dsc nr nw nu) (hP : PIC D clsA G dsc ad σ H) (hdg : decode cc pc = .ok (.getfield 3, 3)) (kk : W p l e R s m args below meth c0 H locs cells slots Q (F0 m (pc + 3) ls (.ref (ad 1000) :: rest))) : W p l e R s m args below meth c0 H locs cells slots Q (F0 m pc ls (.ref (ad 1090) :: rest)) :=
  p_get E.1.1 E.1.2.1 E.1.2.2.2.2 in_X8 E.1.2.2.2.1 hX.1 hP (hD.1 _ _ dX_1090) rfl 3 (by decide) (E.1.2.2.2.2 _ q364) (fun _ h => h) rfl rfl hdg kk
theorem cx_X5_81_X5_value_TF {rm : Room} {σ1 : Sto} {x1 : Int32} {x2 : Int32} {r : Int64} (E : EN p s m args meth c0 RX5 cc nL ret) (hX : KX D G ad A s s.heap) (hD : XD dsc nr nw nu) (hP : PIC D clsA G dsc ad σ H) (hS : va_S A s.heap H locs) (hA : ∀ q, PA dsc ad s.heap.size q → A q) (hM : CtG l D G dsc ad yX5_value (ws_ yX5_value cX5_value 3 (Option.some Jvm.ClassFile.FieldType.long)) rm [.ref (ad 1090), .int x1, .int x2] σ (some (.long r)) σ1) (hz : rm.cells = 0 ∧ rm.slots = 0) (hR : rm.frames + 1 ≤ R.frames ∧ 8 + (3 + 11) + rm.locals ≤ R.locals) (hcs : cells ≤ R.cells ∧ slots ≤ R.slots) (hsz : ls.size = nL) (hW : (rest.map fun v => v.category).sum ≤ 8) (hdg : decode cc pc = .ok (.invokevirtual 81, 3)) (kk : ∀ (H1 : Heap) (locs1 : List Loc), PIC D clsA G dsc ad σ1 H1 → va_S A s.heap H1 locs1 → W p l e R s m args below meth c0 H1 locs1 cells slots Q (F0 m (pc + 3) ls (.long r :: rest))) : W p l e R s m args below meth c0 H locs cells slots Q (F0 m pc ls (.int x2 :: .int x1 :: .ref (ad 1090) :: rest)) :=
  p_gU (As := [.int x1, .int x2]) (rest := rest) E.1 hX hP hS hA hM (cw_any (owner := "ShutPasses$Table") (x := ⟨"ShutPasses$Table", "value", "(II)J"⟩) (y := yX5_value) (C := "ShutPasses$Spare") (index := 81) (own := RX5) 2 E.1.2.2.2.2 (lw_meth q1096) rfl hz.1 hz.2 (E.1.2.2.2.2 _ q1090) (E.1.2.2.2.2 _ q1092) (va_Decl.of (E.1.2.2.2.2 _ q1091) (E.1.2.2.2.2 _ q1096)) (E.1.2.2.2.2 _ q1095) (E.1.2.2.2.2 _ q1091) (E.1.2.2.2.2 _ q131) (by decide +kernel) hR) (hD.1 _ _ dX_1090) rfl rfl rfl hsz rfl hW hdg hcs kk
theorem cx_X5_70_X8_end_TF {rm : Room} {σ1 : Sto} {x1 : Int32} {r : Int64} (E : EN p s m args meth c0 RX5 cc nL ret) (hX : KX D G ad A s s.heap) (hD : XD dsc nr nw nu) (hP : PIC D clsA G dsc ad σ H) (hS : va_S A s.heap H locs) (hA : ∀ q, PA dsc ad s.heap.size q → A q) (hM : CtG l D G dsc ad yX8_end (ws_ yX8_end cX8_end 5 (Option.some Jvm.ClassFile.FieldType.long)) rm [.ref (ad 1090), .int x1] σ (some (.long r)) σ1) (hz : rm.cells = 0 ∧ rm.slots = 0) (hR : rm.frames + 1 ≤ R.frames ∧ 8 + (5 + 11) + rm.locals ≤ R.locals) (hcs : cells ≤ R.cells ∧ slots ≤ R.slots) (hsz : ls.size = nL) (hW : (rest.map fun v => v.category).sum ≤ 8) (hdg : decode cc pc = .ok (.invokevirtual 70, 3)) (kk : ∀ (H1 : Heap) (locs1 : List Loc), PIC D clsA G dsc ad σ1 H1 → va_S A s.heap H1 locs1 → W p l e R s m args below meth c0 H1 locs1 cells slots Q (F0 m (pc + 3) ls (.long r :: rest))) : W p l e R s m args below meth c0 H locs cells slots Q (F0 m pc ls (.int x1 :: .ref (ad 1090) :: rest)) :=
  p_gU (As := [.int x1]) (rest := rest) E.1 hX hP hS hA hM (cw_any (owner := "ShutPasses$Table") (x := ⟨"ShutPasses$Table", "end", "(I)J"⟩) (y := yX8_end) (C := "ShutPasses$Spare") (index := 70) (own := RX5) 1 E.1.2.2.2.2 (lw_meth q1074) rfl hz.1 hz.2 (E.1.2.2.2.2 _ q1065) (E.1.2.2.2.2 _ q1067) (va_Decl.abs (hX.2.1.1 _ q1066 rfl)) (E.1.2.2.2.2 _ q1072) (E.1.2.2.2.2 _ q1073) (E.1.2.2.2.2 _ q134) (by decide +kernel) hR) (hD.1 _ _ dX_1090) rfl rfl rfl hsz rfl hW hdg hcs kk
abbrev rmG_T_TF (d : Nat) : Room := { frames := 3 + d, cells := 0, slots := 0, locals := 68 + d * 28 }
/-! X5_over_TF (III)J -/
abbrev rmX5_over_TF : Room := rmG_T_TF 40
set_option maxHeartbeats 4000000 in
theorem wkX5_over_TF {x1 : Int32} {x2 : Int32} {x3 : Int32} {r_ : Int64} {d : Nat} {f_X5_over : Int32 → Int32 → Int32 → Option (Int64)} {f_X5_shown : Int32 → Int32 → Int32 → Int32 → Int32 → Option (Int64)} {f_X5_arrived : Int32 → Int32 → Option (Int64)} (hrec_X5_over : ∀ (σ1 : Sto) {x1 : Int32} {x2 : Int32} {x3 : Int32} {r_ : Int64} (_ : σ1.1 1092 = (σ.1 1092)) (_ : σ1.1 1094 = (σ.1 1094)) (_ : σ1.1 1095 = (σ.1 1095)) (_ : σ1.1 2013 = (σ.1 2013)) (_ : σ1.1 2027 = (σ.1 2027)) (_ : σ1.2.1 1091 = (σ.2.1 1091)) (_ : σ1.2.2.1 1108 = (σ.2.2.1 1108)) (_ : σ1.2.2.1 1170 = (σ.2.2.1 1170)) (_ : σ1.2.2.1 2043 = (σ.2.2.1 2043)) (_ : σ1.2.2.2.1 1140 = (σ.2.2.2.1 1140)) (_ : σ1.2.2.2.1 1141 = (σ.2.2.2.1 1141)) (_ : σ1.2.2.2.1 1153 = (σ.2.2.2.1 1153)), f_X5_over x1 x2 x3 = some r_ → CtG l D G dsc ad yX5_over (ws_ yX5_over cX5_over 9 (Option.some Jvm.ClassFile.FieldType.long)) (rmG_T_TF d) [.ref (ad 1090), .int x1, .int x2, .int x3] σ1 (some (.long r_)) σ1) (hrec_X5_shown : ∀ (σ1 : Sto) {x1 : Int32} {x2 : Int32} {x3 : Int32} {x4 : Int32} {x5 : Int32} {r_ : Int64} (_ : σ1.1 1092 = (σ.1 1092)) (_ : σ1.1 1094 = (σ.1 1094)) (_ : σ1.1 1095 = (σ.1 1095)) (_ : σ1.1 2013 = (σ.1 2013)) (_ : σ1.1 2027 = (σ.1 2027)) (_ : σ1.2.1 1091 = (σ.2.1 1091)) (_ : σ1.2.2.1 1108 = (σ.2.2.1 1108)) (_ : σ1.2.2.1 1170 = (σ.2.2.1 1170)) (_ : σ1.2.2.1 2043 = (σ.2.2.1 2043)) (_ : σ1.2.2.2.1 1140 = (σ.2.2.2.1 1140)) (_ : σ1.2.2.2.1 1141 = (σ.2.2.2.1 1141)) (_ : σ1.2.2.2.1 1153 = (σ.2.2.2.1 1153)), f_X5_shown x1 x2 x3 x4 x5 = some r_ → CtG l D G dsc ad yX5_shown (ws_ yX5_shown cX5_shown 6 (Option.some Jvm.ClassFile.FieldType.long)) (rmG_T_TF d) [.ref (ad 1090), .int x1, .int x2, .int x3, .int x4, .int x5] σ1 (some (.long r_)) σ1) (hrec_X5_arrived : ∀ (σ1 : Sto) {x1 : Int32} {x2 : Int32} {r_ : Int64} (_ : σ1.1 1092 = (σ.1 1092)) (_ : σ1.1 1094 = (σ.1 1094)) (_ : σ1.1 1095 = (σ.1 1095)) (_ : σ1.1 2013 = (σ.1 2013)) (_ : σ1.1 2027 = (σ.1 2027)) (_ : σ1.2.1 1091 = (σ.2.1 1091)) (_ : σ1.2.2.1 1108 = (σ.2.2.1 1108)) (_ : σ1.2.2.1 1170 = (σ.2.2.1 1170)) (_ : σ1.2.2.1 2043 = (σ.2.2.1 2043)) (_ : σ1.2.2.2.1 1140 = (σ.2.2.2.1 1140)) (_ : σ1.2.2.2.1 1141 = (σ.2.2.2.1 1141)) (_ : σ1.2.2.2.1 1153 = (σ.2.2.2.1 1153)), f_X5_arrived x1 x2 = some r_ → CtG l D G dsc ad yX5_arrived (ws_ yX5_arrived cX5_arrived 3 (Option.some Jvm.ClassFile.FieldType.long)) (rmG_T_TF d) [.ref (ad 1090), .int x1, .int x2] σ1 (some (.long r_)) σ1) (E : EN p s m args meth c0 RX5 cX5_over 9 (Option.some Jvm.ClassFile.FieldType.long)) (hX : KX D G ad A s s.heap) (hD : XD dsc nr nw nu) (hA : ∀ q, PA dsc ad s.heap.size q → A q) (hf : xo_X5_over_TF_B f_X5_over f_X5_shown f_X5_arrived (σ.1 1092) (σ.1 1094) (σ.1 1095) (σ.1 2013) (σ.1 2027) (σ.2.1 1091) (σ.2.2.1 1108) (σ.2.2.1 1170) (σ.2.2.1 2043) (σ.2.2.2.1 1140) (σ.2.2.2.1 1141) (σ.2.2.2.1 1153) x1 x2 x3 = some r_) (hQ : Q = MQ below (va_G1 (some (.long r_)) (fun t => PIC D clsA G dsc ad σ t.heap) A) args s 0 0 A) (hP : PIC D clsA G dsc ad σ H) (hS : va_S A s.heap H locs) (hl : lv_has ls 9 [(0, .ref (ad 1090)), (1, .int x1), (2, .int x2), (3, .int x3)]) : W p l e (rmG_T_TF (d + 1)) s m args below meth c0 H locs 0 0 Q (F0 m 0 ls []) := by
  obtain ⟨⟨hx, hb, hml, hown, hts⟩, hr, hlk⟩ := id E
  unfold xo_X5_over_TF_B at hf
  refine lv_iload_n hx hb dX5_over_0 rfl (lv_at hl 1 rfl) ?_
  refine lv_if_ne (tgt := 11) hx hb dX5_over_1 (by decide) (fun c1 => ?_) (fun c1 => ?_)
  · have hf := ifF c1 hf
    refine lv_iload_n hx hb dX5_over_11 rfl (lv_at hl 1 rfl) ?_
    obtain ⟨v2, u3, hf⟩ := bdP hf
    refine cx_X5_120_J17_numberOfTrailingZeros E hX hD hP hS hA (kxJ17_numberOfTrailingZeros l D G hD u3) ⟨rfl, rfl⟩ ⟨by dsimp only [rmG_T_TF, rmJ17_numberOfTrailingZeros]; omega, by dsimp only [rmG_T_TF, rmJ17_numberOfTrailingZeros]; omega⟩ ⟨Nat.zero_le _, Nat.zero_le _⟩ hl.1 (Nat.le_of_ble_eq_true rfl) dX5_over_12 (fun H locs hP hS => ?_)
    refine lv_istore (lv' := [(4, .int v2), (0, .ref (ad 1090)), (1, .int x1), (2, .int x2), (3, .int x3)]) hx hb dX5_over_15 hl (by decide) rfl (fun ls hl => ?_)
    refine lv_aload_n hx hb dX5_over_17 rfl (lv_at hl 1 rfl) ?_
    refine lv_iload_n hx hb dX5_over_18 rfl (lv_at hl 2 rfl) ?_
    refine lv_iload hx hb dX5_over_19 (lv_at hl 0 rfl) ?_
    refine lv_iconst hx hb dX5_over_21 ic_1 ?_
    refine lv_iload_n hx hb dX5_over_22 rfl (lv_at hl 3 rfl) ?_
    refine lv_iload_n hx hb dX5_over_23 rfl (lv_at hl 4 rfl) ?_
    obtain ⟨v4, u5, hf⟩ := bdP hf
    refine cx_X5_125_X5_shown_TF E hX hD hP hS hA (hrec_X5_shown _ rfl rfl rfl rfl rfl rfl rfl rfl rfl rfl rfl rfl u5) ⟨rfl, rfl⟩ ⟨Nat.le_refl _, by dsimp only [rmG_T_TF]; omega⟩ ⟨Nat.zero_le _, Nat.zero_le _⟩ hl.1 (Nat.le_of_ble_eq_true rfl) dX5_over_24 (fun H locs hP hS => ?_)
    refine lv_lstore (lv' := [(5, .long v4), (4, .int v2), (0, .ref (ad 1090)), (1, .int x1), (2, .int x2), (3, .int x3)]) hx hb dX5_over_27 hl (by decide) rfl (fun ls hl => ?_)
    refine lv_aload_n hx hb dX5_over_29 rfl (lv_at hl 2 rfl) ?_
    refine lv_iload_n hx hb dX5_over_30 rfl (lv_at hl 3 rfl) ?_
    refine lv_iload hx hb dX5_over_31 (lv_at hl 1 rfl) ?_
    refine lv_iconst hx hb dX5_over_33 ic_2 ?_
    refine lv_iload_n hx hb dX5_over_34 rfl (lv_at hl 4 rfl) ?_
    refine lv_iload_n hx hb dX5_over_35 rfl (lv_at hl 5 rfl) ?_
    obtain ⟨v6, u7, hf⟩ := bdP hf
    refine cx_X5_125_X5_shown_TF E hX hD hP hS hA (hrec_X5_shown _ rfl rfl rfl rfl rfl rfl rfl rfl rfl rfl rfl rfl u7) ⟨rfl, rfl⟩ ⟨Nat.le_refl _, by dsimp only [rmG_T_TF]; omega⟩ ⟨Nat.zero_le _, Nat.zero_le _⟩ hl.1 (Nat.le_of_ble_eq_true rfl) dX5_over_36 (fun H locs hP hS => ?_)
    refine lv_lstore (lv' := [(7, .long v6), (5, .long v4), (4, .int v2), (0, .ref (ad 1090)), (1, .int x1), (2, .int x2), (3, .int x3)]) hx hb dX5_over_39 hl (by decide) rfl (fun ls hl => ?_)
    refine lv_aload_n hx hb dX5_over_41 rfl (lv_at hl 3 rfl) ?_
    refine gx_X5_23_1090 (v := (σ.1 1092)) E hX hD hP rfl dX5_over_42 ?_
    obtain ⟨v8, hv8, hf⟩ := bdP hf
    refine p_nn0 (ckz_some hv8) ?_
    refine gx_X5_46_1050 E hX hD hP dX5_over_45 ?_
    refine lv_iload_n hx hb dX5_over_48 rfl (lv_at hl 6 rfl) ?_
    refine lv_iload hx hb dX5_over_49 (lv_at hl 2 rfl) ?_
    refine lv_iconst hx hb dX5_over_51 ic_1 ?_
    obtain ⟨v9, u10, hf⟩ := bdP hf
    refine cx_X5_129_X1_with E hX hD hP hS hA (kxX1_with l D G hD rfl u10) ⟨rfl, rfl⟩ ⟨by dsimp only [rmG_T_TF, rmX1_with]; omega, by dsimp only [rmG_T_TF, rmX1_with]; omega⟩ ⟨Nat.zero_le _, Nat.zero_le _⟩ hl.1 (Nat.le_of_ble_eq_true rfl) dX5_over_52 (fun H locs hP hS => ?_)
    obtain ⟨v11, hv11, hf⟩ := bdP hf
    refine p_lald hx hb hX.1 hP (hD.1 _ _ dX_1141) rfl hv11 dX5_over_55 ?_
    refine lv_lconst hx hb dX5_over_56 lc_0 ?_
    refine W.lcmp hx hb dX5_over_57 ?_
    refine lv_if_ne (tgt := 64) hx hb dX5_over_58 (by decide) (fun c12 => ?_) (fun c12 => ?_)
    · have hf := ifF (mt (lgc_eq _ _).mpr c12) hf
      refine lv_aload_n hx hb dX5_over_64 rfl (lv_at hl 3 rfl) ?_
      refine gx_X5_23_1090 (v := (σ.1 1092)) E hX hD hP rfl dX5_over_65 ?_
      obtain ⟨v13, hv13, hf⟩ := bdP hf
      refine p_nn0 (ckz_some hv13) ?_
      refine gx_X5_46_1050 E hX hD hP dX5_over_68 ?_
      refine lv_iload_n hx hb dX5_over_71 rfl (lv_at hl 6 rfl) ?_
      refine lv_iload hx hb dX5_over_72 (lv_at hl 2 rfl) ?_
      refine lv_iconst hx hb dX5_over_74 ic_2 ?_
      obtain ⟨v14, u15, hf⟩ := bdP hf
      refine cx_X5_129_X1_with E hX hD hP hS hA (kxX1_with l D G hD rfl u15) ⟨rfl, rfl⟩ ⟨by dsimp only [rmG_T_TF, rmX1_with]; omega, by dsimp only [rmG_T_TF, rmX1_with]; omega⟩ ⟨Nat.zero_le _, Nat.zero_le _⟩ hl.1 (Nat.le_of_ble_eq_true rfl) dX5_over_75 (fun H locs hP hS => ?_)
      obtain ⟨v16, hv16, hf⟩ := bdP hf
      refine p_lald hx hb hX.1 hP (hD.1 _ _ dX_1141) rfl hv16 dX5_over_78 ?_
      refine lv_lconst hx hb dX5_over_79 lc_0 ?_
      refine W.lcmp hx hb dX5_over_80 ?_
      refine lv_if_ne (tgt := 87) hx hb dX5_over_81 (by decide) (fun c17 => ?_) (fun c17 => ?_)
      · have hf := ifF (mt (lgc_eq _ _).mpr c17) hf
        refine lv_lload hx hb dX5_over_87 (lv_at hl 1 rfl) ?_
        refine lv_aload_n hx hb dX5_over_89 rfl (lv_at hl 3 rfl) ?_
        refine gx_X5_19_1090 (v := (σ.2.1 1091)) E hX hD hP rfl dX5_over_90 ?_
        refine W.lcmp hx hb dX5_over_93 ?_
        have J107 : xo_X5_over_TF_J107 (σ.2.1 1091) = some r_ → ∀ (H : Heap) (locs : List Loc), PIC D clsA G dsc ad σ H → va_S A s.heap H locs → ∀ (ls : Array Slot), lv_has ls 9 [(0, .ref (ad 1090))] → W p l e (rmG_T_TF (d + 1)) s m args below meth c0 H locs 0 0 Q (F0 m 107 ls []) := by
          intro  hf H locs hP hS ls hl
          unfold xo_X5_over_TF_J107 at hf
          refine lv_aload_n hx hb dX5_over_107 rfl (lv_at hl 0 rfl) ?_
          refine gx_X5_19_1090 (v := (σ.2.1 1091)) E hX hD hP rfl dX5_over_108 ?_
          refine lv_goto (tgt := 122) hx hb dX5_over_111 (by decide) ?_
          cases hf
          rw [hQ]; exact g_lret hx hb hr hlk hP hS dX5_over_122
        refine lv_if_eq (tgt := 107) hx hb dX5_over_94 (by decide) (fun c18 => ?_) (fun c18 => ?_)
        · have hf := ifT ((lgc_eq _ _).mp c18) hf
          exact J107  hf H locs hP hS ls (lv_sub hl [3] rfl)
        · have hf := ifF (mt (lgc_eq _ _).mpr c18) hf
          refine lv_lload hx hb dX5_over_97 (lv_at hl 0 rfl) ?_
          refine lv_aload_n hx hb dX5_over_99 rfl (lv_at hl 3 rfl) ?_
          refine gx_X5_19_1090 (v := (σ.2.1 1091)) E hX hD hP rfl dX5_over_100 ?_
          refine W.lcmp hx hb dX5_over_103 ?_
          refine lv_if_ne (tgt := 114) hx hb dX5_over_104 (by decide) (fun c19 => ?_) (fun c19 => ?_)
          · have hf := ifF (mt (lgc_eq _ _).mpr c19) hf
            refine lv_aload_n hx hb dX5_over_114 rfl (lv_at hl 3 rfl) ?_
            refine lv_lload hx hb dX5_over_115 (lv_at hl 1 rfl) ?_
            refine lv_lload hx hb dX5_over_117 (lv_at hl 0 rfl) ?_
            obtain ⟨v20, u21, hf⟩ := bdP hf
            refine cx_X5_132_X8_both_TF E hX hD hP hS hA (kxX8_both_TF l D G hD u21) ⟨rfl, rfl⟩ ⟨by dsimp only [rmG_T_TF, rmX8_both_TF]; omega, by dsimp only [rmG_T_TF, rmX8_both_TF]; omega⟩ ⟨Nat.zero_le _, Nat.zero_le _⟩ hl.1 (Nat.le_of_ble_eq_true rfl) dX5_over_119 (fun H locs hP hS => ?_)
            cases hf
            rw [hQ]; exact g_lret hx hb hr hlk hP hS dX5_over_122
          · have hf := ifT ((lgc_eq _ _).mp c19) hf
            exact J107  hf H locs hP hS ls (lv_sub hl [3] rfl)
      · have hf := ifT ((lgc_eq _ _).mp c17) hf
        refine lv_lload hx hb dX5_over_84 (lv_at hl 1 rfl) ?_
        cases hf
        rw [hQ]; exact g_lret hx hb hr hlk hP hS dX5_over_86
    · have hf := ifT ((lgc_eq _ _).mp c12) hf
      refine lv_lload hx hb dX5_over_61 (lv_at hl 0 rfl) ?_
      cases hf
      rw [hQ]; exact g_lret hx hb hr hlk hP hS dX5_over_63
  · have hf := ifT c1 hf
    refine lv_aload_n hx hb dX5_over_4 rfl (lv_at hl 0 rfl) ?_
    refine lv_iload_n hx hb dX5_over_5 rfl (lv_at hl 2 rfl) ?_
    refine lv_iload_n hx hb dX5_over_6 rfl (lv_at hl 3 rfl) ?_
    obtain ⟨v22, u23, hf⟩ := bdP hf
    refine cx_X5_117_X5_arrived_TF E hX hD hP hS hA (hrec_X5_arrived _ rfl rfl rfl rfl rfl rfl rfl rfl rfl rfl rfl rfl u23) ⟨rfl, rfl⟩ ⟨Nat.le_refl _, by dsimp only [rmG_T_TF]; omega⟩ ⟨Nat.zero_le _, Nat.zero_le _⟩ hl.1 (Nat.le_of_ble_eq_true rfl) dX5_over_7 (fun H locs hP hS => ?_)
    cases hf
    rw [hQ]; exact g_lret hx hb hr hlk hP hS dX5_over_10
/-! X5_shown_TF (IIIII)J -/
abbrev rmX5_shown_TF : Room := rmG_T_TF 40
set_option maxHeartbeats 4000000 in
theorem wkX5_shown_TF {x1 : Int32} {x2 : Int32} {x3 : Int32} {x4 : Int32} {x5 : Int32} {r_ : Int64} {d : Nat} {f_X5_over : Int32 → Int32 → Int32 → Option (Int64)} {f_X5_shown : Int32 → Int32 → Int32 → Int32 → Int32 → Option (Int64)} {f_X5_arrived : Int32 → Int32 → Option (Int64)} (hrec_X5_over : ∀ (σ1 : Sto) {x1 : Int32} {x2 : Int32} {x3 : Int32} {r_ : Int64} (_ : σ1.1 1092 = (σ.1 1092)) (_ : σ1.1 1094 = (σ.1 1094)) (_ : σ1.1 1095 = (σ.1 1095)) (_ : σ1.1 2013 = (σ.1 2013)) (_ : σ1.1 2027 = (σ.1 2027)) (_ : σ1.2.1 1091 = (σ.2.1 1091)) (_ : σ1.2.2.1 1108 = (σ.2.2.1 1108)) (_ : σ1.2.2.1 1170 = (σ.2.2.1 1170)) (_ : σ1.2.2.1 2043 = (σ.2.2.1 2043)) (_ : σ1.2.2.2.1 1140 = (σ.2.2.2.1 1140)) (_ : σ1.2.2.2.1 1141 = (σ.2.2.2.1 1141)) (_ : σ1.2.2.2.1 1153 = (σ.2.2.2.1 1153)), f_X5_over x1 x2 x3 = some r_ → CtG l D G dsc ad yX5_over (ws_ yX5_over cX5_over 9 (Option.some Jvm.ClassFile.FieldType.long)) (rmG_T_TF d) [.ref (ad 1090), .int x1, .int x2, .int x3] σ1 (some (.long r_)) σ1) (hrec_X5_shown : ∀ (σ1 : Sto) {x1 : Int32} {x2 : Int32} {x3 : Int32} {x4 : Int32} {x5 : Int32} {r_ : Int64} (_ : σ1.1 1092 = (σ.1 1092)) (_ : σ1.1 1094 = (σ.1 1094)) (_ : σ1.1 1095 = (σ.1 1095)) (_ : σ1.1 2013 = (σ.1 2013)) (_ : σ1.1 2027 = (σ.1 2027)) (_ : σ1.2.1 1091 = (σ.2.1 1091)) (_ : σ1.2.2.1 1108 = (σ.2.2.1 1108)) (_ : σ1.2.2.1 1170 = (σ.2.2.1 1170)) (_ : σ1.2.2.1 2043 = (σ.2.2.1 2043)) (_ : σ1.2.2.2.1 1140 = (σ.2.2.2.1 1140)) (_ : σ1.2.2.2.1 1141 = (σ.2.2.2.1 1141)) (_ : σ1.2.2.2.1 1153 = (σ.2.2.2.1 1153)), f_X5_shown x1 x2 x3 x4 x5 = some r_ → CtG l D G dsc ad yX5_shown (ws_ yX5_shown cX5_shown 6 (Option.some Jvm.ClassFile.FieldType.long)) (rmG_T_TF d) [.ref (ad 1090), .int x1, .int x2, .int x3, .int x4, .int x5] σ1 (some (.long r_)) σ1) (hrec_X5_arrived : ∀ (σ1 : Sto) {x1 : Int32} {x2 : Int32} {r_ : Int64} (_ : σ1.1 1092 = (σ.1 1092)) (_ : σ1.1 1094 = (σ.1 1094)) (_ : σ1.1 1095 = (σ.1 1095)) (_ : σ1.1 2013 = (σ.1 2013)) (_ : σ1.1 2027 = (σ.1 2027)) (_ : σ1.2.1 1091 = (σ.2.1 1091)) (_ : σ1.2.2.1 1108 = (σ.2.2.1 1108)) (_ : σ1.2.2.1 1170 = (σ.2.2.1 1170)) (_ : σ1.2.2.1 2043 = (σ.2.2.1 2043)) (_ : σ1.2.2.2.1 1140 = (σ.2.2.2.1 1140)) (_ : σ1.2.2.2.1 1141 = (σ.2.2.2.1 1141)) (_ : σ1.2.2.2.1 1153 = (σ.2.2.2.1 1153)), f_X5_arrived x1 x2 = some r_ → CtG l D G dsc ad yX5_arrived (ws_ yX5_arrived cX5_arrived 3 (Option.some Jvm.ClassFile.FieldType.long)) (rmG_T_TF d) [.ref (ad 1090), .int x1, .int x2] σ1 (some (.long r_)) σ1) (E : EN p s m args meth c0 RX5 cX5_shown 6 (Option.some Jvm.ClassFile.FieldType.long)) (hX : KX D G ad A s s.heap) (hD : XD dsc nr nw nu) (hA : ∀ q, PA dsc ad s.heap.size q → A q) (hf : xo_X5_shown_TF_B f_X5_over f_X5_shown f_X5_arrived (σ.1 1092) (σ.1 1094) (σ.1 1095) (σ.1 2013) (σ.1 2027) (σ.2.1 1091) (σ.2.2.1 1108) (σ.2.2.1 1170) (σ.2.2.1 2043) (σ.2.2.2.1 1140) (σ.2.2.2.1 1141) (σ.2.2.2.1 1153) x1 x2 x3 x4 x5 = some r_) (hQ : Q = MQ below (va_G1 (some (.long r_)) (fun t => PIC D clsA G dsc ad σ t.heap) A) args s 0 0 A) (hP : PIC D clsA G dsc ad σ H) (hS : va_S A s.heap H locs) (hl : lv_has ls 6 [(0, .ref (ad 1090)), (1, .int x1), (2, .int x2), (3, .int x3), (4, .int x4), (5, .int x5)]) : W p l e (rmG_T_TF (d + 1)) s m args below meth c0 H locs 0 0 Q (F0 m 0 ls []) := by
  obtain ⟨⟨hx, hb, hml, hown, hts⟩, hr, hlk⟩ := id E
  unfold xo_X5_shown_TF_B at hf
  refine lv_aload_n hx hb dX5_shown_0 rfl (lv_at hl 0 rfl) ?_
  refine gx_X5_23_1090 (v := (σ.1 1092)) E hX hD hP rfl dX5_shown_1 ?_
  obtain ⟨v1, hv1, hf⟩ := bdP hf
  refine p_nn0 (ckz_some hv1) ?_
  refine gx_X5_46_1050 E hX hD hP dX5_shown_4 ?_
  refine lv_iload hx hb dX5_shown_7 (lv_at hl 5 rfl) ?_
  refine lv_iload_n hx hb dX5_shown_9 rfl (lv_at hl 2 rfl) ?_
  refine lv_iload_n hx hb dX5_shown_10 rfl (lv_at hl 3 rfl) ?_
  obtain ⟨v2, u3, hf⟩ := bdP hf
  refine cx_X5_129_X1_with E hX hD hP hS hA (kxX1_with l D G hD rfl u3) ⟨rfl, rfl⟩ ⟨by dsimp only [rmG_T_TF, rmX1_with]; omega, by dsimp only [rmG_T_TF, rmX1_with]; omega⟩ ⟨Nat.zero_le _, Nat.zero_le _⟩ hl.1 (Nat.le_of_ble_eq_true rfl) dX5_shown_11 (fun H locs hP hS => ?_)
  obtain ⟨v4, hv4, hf⟩ := bdP hf
  refine p_lald hx hb hX.1 hP (hD.1 _ _ dX_1141) rfl hv4 dX5_shown_14 ?_
  refine lv_lconst hx hb dX5_shown_15 lc_0 ?_
  refine W.lcmp hx hb dX5_shown_16 ?_
  refine lv_if_ne (tgt := 27) hx hb dX5_shown_17 (by decide) (fun c5 => ?_) (fun c5 => ?_)
  · have hf := ifF (mt (lgc_eq _ _).mpr c5) hf
    refine lv_aload_n hx hb dX5_shown_27 rfl (lv_at hl 0 rfl) ?_
    refine lv_iload_n hx hb dX5_shown_28 rfl (lv_at hl 1 rfl) ?_
    refine lv_iconst hx hb dX5_shown_29 ic_1 ?_
    refine lv_iload_n hx hb dX5_shown_30 rfl (lv_at hl 2 rfl) ?_
    refine lv_ishl hx hb dX5_shown_31 ?_
    refine lv_iconst hx hb dX5_shown_32 ic_m1 ?_
    refine lv_ixor hx hb dX5_shown_33 ?_
    refine lv_iand hx hb dX5_shown_34 ?_
    refine lv_iload hx hb dX5_shown_35 (lv_at hl 4 rfl) ?_
    refine lv_iload hx hb dX5_shown_37 (lv_at hl 5 rfl) ?_
    refine lv_iload_n hx hb dX5_shown_39 rfl (lv_at hl 2 rfl) ?_
    refine lv_iload_n hx hb dX5_shown_40 rfl (lv_at hl 3 rfl) ?_
    obtain ⟨v6, u7, hf⟩ := bdP hf
    refine cx_X5_129_X1_with E hX hD hP hS hA (kxX1_with l D G hD rfl u7) ⟨rfl, rfl⟩ ⟨by dsimp only [rmG_T_TF, rmX1_with]; omega, by dsimp only [rmG_T_TF, rmX1_with]; omega⟩ ⟨Nat.zero_le _, Nat.zero_le _⟩ hl.1 (Nat.le_of_ble_eq_true rfl) dX5_shown_41 (fun H locs hP hS => ?_)
    obtain ⟨v8, u9, hf⟩ := bdP hf
    refine cx_X5_114_X5_over_TF E hX hD hP hS hA (hrec_X5_over _ rfl rfl rfl rfl rfl rfl rfl rfl rfl rfl rfl rfl u9) ⟨rfl, rfl⟩ ⟨Nat.le_refl _, by dsimp only [rmG_T_TF]; omega⟩ ⟨Nat.zero_le _, Nat.zero_le _⟩ hl.1 (Nat.le_of_ble_eq_true rfl) dX5_shown_44 (fun H locs hP hS => ?_)
    cases hf
    rw [hQ]; exact g_lret hx hb hr hlk hP hS dX5_shown_47
  · have hf := ifT ((lgc_eq _ _).mp c5) hf
    refine lv_aload_n hx hb dX5_shown_20 rfl (lv_at hl 0 rfl) ?_
    refine gx_X5_19_1090 (v := (σ.2.1 1091)) E hX hD hP rfl dX5_shown_21 ?_
    refine lv_goto (tgt := 47) hx hb dX5_shown_24 (by decide) ?_
    cases hf
    rw [hQ]; exact g_lret hx hb hr hlk hP hS dX5_shown_47
/-! X5_arrived_TF (II)J -/
abbrev rmX5_arrived_TF : Room := rmG_T_TF 40
set_option maxHeartbeats 4000000 in
theorem wkX5_arrived_TF {x1 : Int32} {x2 : Int32} {r_ : Int64} {d : Nat} {f_X5_over : Int32 → Int32 → Int32 → Option (Int64)} {f_X5_shown : Int32 → Int32 → Int32 → Int32 → Int32 → Option (Int64)} {f_X5_arrived : Int32 → Int32 → Option (Int64)} (hrec_X5_over : ∀ (σ1 : Sto) {x1 : Int32} {x2 : Int32} {x3 : Int32} {r_ : Int64} (_ : σ1.1 1092 = (σ.1 1092)) (_ : σ1.1 1094 = (σ.1 1094)) (_ : σ1.1 1095 = (σ.1 1095)) (_ : σ1.1 2013 = (σ.1 2013)) (_ : σ1.1 2027 = (σ.1 2027)) (_ : σ1.2.1 1091 = (σ.2.1 1091)) (_ : σ1.2.2.1 1108 = (σ.2.2.1 1108)) (_ : σ1.2.2.1 1170 = (σ.2.2.1 1170)) (_ : σ1.2.2.1 2043 = (σ.2.2.1 2043)) (_ : σ1.2.2.2.1 1140 = (σ.2.2.2.1 1140)) (_ : σ1.2.2.2.1 1141 = (σ.2.2.2.1 1141)) (_ : σ1.2.2.2.1 1153 = (σ.2.2.2.1 1153)), f_X5_over x1 x2 x3 = some r_ → CtG l D G dsc ad yX5_over (ws_ yX5_over cX5_over 9 (Option.some Jvm.ClassFile.FieldType.long)) (rmG_T_TF d) [.ref (ad 1090), .int x1, .int x2, .int x3] σ1 (some (.long r_)) σ1) (hrec_X5_shown : ∀ (σ1 : Sto) {x1 : Int32} {x2 : Int32} {x3 : Int32} {x4 : Int32} {x5 : Int32} {r_ : Int64} (_ : σ1.1 1092 = (σ.1 1092)) (_ : σ1.1 1094 = (σ.1 1094)) (_ : σ1.1 1095 = (σ.1 1095)) (_ : σ1.1 2013 = (σ.1 2013)) (_ : σ1.1 2027 = (σ.1 2027)) (_ : σ1.2.1 1091 = (σ.2.1 1091)) (_ : σ1.2.2.1 1108 = (σ.2.2.1 1108)) (_ : σ1.2.2.1 1170 = (σ.2.2.1 1170)) (_ : σ1.2.2.1 2043 = (σ.2.2.1 2043)) (_ : σ1.2.2.2.1 1140 = (σ.2.2.2.1 1140)) (_ : σ1.2.2.2.1 1141 = (σ.2.2.2.1 1141)) (_ : σ1.2.2.2.1 1153 = (σ.2.2.2.1 1153)), f_X5_shown x1 x2 x3 x4 x5 = some r_ → CtG l D G dsc ad yX5_shown (ws_ yX5_shown cX5_shown 6 (Option.some Jvm.ClassFile.FieldType.long)) (rmG_T_TF d) [.ref (ad 1090), .int x1, .int x2, .int x3, .int x4, .int x5] σ1 (some (.long r_)) σ1) (hrec_X5_arrived : ∀ (σ1 : Sto) {x1 : Int32} {x2 : Int32} {r_ : Int64} (_ : σ1.1 1092 = (σ.1 1092)) (_ : σ1.1 1094 = (σ.1 1094)) (_ : σ1.1 1095 = (σ.1 1095)) (_ : σ1.1 2013 = (σ.1 2013)) (_ : σ1.1 2027 = (σ.1 2027)) (_ : σ1.2.1 1091 = (σ.2.1 1091)) (_ : σ1.2.2.1 1108 = (σ.2.2.1 1108)) (_ : σ1.2.2.1 1170 = (σ.2.2.1 1170)) (_ : σ1.2.2.1 2043 = (σ.2.2.1 2043)) (_ : σ1.2.2.2.1 1140 = (σ.2.2.2.1 1140)) (_ : σ1.2.2.2.1 1141 = (σ.2.2.2.1 1141)) (_ : σ1.2.2.2.1 1153 = (σ.2.2.2.1 1153)), f_X5_arrived x1 x2 = some r_ → CtG l D G dsc ad yX5_arrived (ws_ yX5_arrived cX5_arrived 3 (Option.some Jvm.ClassFile.FieldType.long)) (rmG_T_TF d) [.ref (ad 1090), .int x1, .int x2] σ1 (some (.long r_)) σ1) (E : EN p s m args meth c0 RX5 cX5_arrived 3 (Option.some Jvm.ClassFile.FieldType.long)) (hX : KX D G ad A s s.heap) (hD : XD dsc nr nw nu) (hA : ∀ q, PA dsc ad s.heap.size q → A q) (hf : xo_X5_arrived_TF_B f_X5_over f_X5_shown f_X5_arrived (σ.1 1092) (σ.1 1094) (σ.1 1095) (σ.1 2013) (σ.1 2027) (σ.2.1 1091) (σ.2.2.1 1108) (σ.2.2.1 1170) (σ.2.2.1 2043) (σ.2.2.2.1 1140) (σ.2.2.2.1 1141) (σ.2.2.2.1 1153) x1 x2 = some r_) (hQ : Q = MQ below (va_G1 (some (.long r_)) (fun t => PIC D clsA G dsc ad σ t.heap) A) args s 0 0 A) (hP : PIC D clsA G dsc ad σ H) (hS : va_S A s.heap H locs) (hl : lv_has ls 3 [(0, .ref (ad 1090)), (1, .int x1), (2, .int x2)]) : W p l e (rmG_T_TF (d + 1)) s m args below meth c0 H locs 0 0 Q (F0 m 0 ls []) := by
  obtain ⟨⟨hx, hb, hml, hown, hts⟩, hr, hlk⟩ := id E
  unfold xo_X5_arrived_TF_B at hf
  refine lv_iload_n hx hb dX5_arrived_0 rfl (lv_at hl 1 rfl) ?_
  refine lv_aload_n hx hb dX5_arrived_1 rfl (lv_at hl 0 rfl) ?_
  refine gx_X5_3_1090 E hX hD hP dX5_arrived_2 ?_
  refine gx_X5_27_1000 E hX hD hP dX5_arrived_5 ?_
  refine gx_X5_67_2000 (v := (σ.1 2013)) E hX hD hP rfl dX5_arrived_8 ?_
  refine lv_icmp_ne (tgt := 22) hx hb dX5_arrived_11 (by decide) (fun c1 => ?_) (fun c1 => ?_)
  · have hf := ifF c1 hf
    refine lv_aload_n hx hb dX5_arrived_22 rfl (lv_at hl 0 rfl) ?_
    refine gx_X5_3_1090 E hX hD hP dX5_arrived_23 ?_
    refine gx_X5_27_1000 E hX hD hP dX5_arrived_26 ?_
    refine lv_iload_n hx hb dX5_arrived_29 rfl (lv_at hl 1 rfl) ?_
    refine lv_iload_n hx hb dX5_arrived_30 rfl (lv_at hl 2 rfl) ?_
    obtain ⟨v2, u3, hf⟩ := bdP hf
    refine cx_X5_74_X3_unseen E hX hD hP hS hA (kxX3_unseen l D G hD rfl rfl rfl u3) ⟨rfl, rfl⟩ ⟨by dsimp only [rmG_T_TF, rmX3_unseen]; omega, by dsimp only [rmG_T_TF, rmX3_unseen]; omega⟩ ⟨Nat.zero_le _, Nat.zero_le _⟩ hl.1 (Nat.le_of_ble_eq_true rfl) dX5_arrived_31 (fun H locs hP hS => ?_)
    refine lv_if_ne (tgt := 46) hx hb dX5_arrived_34 (by decide) (fun c4 => ?_) (fun c4 => ?_)
    · have hf := ifF c4 hf
      refine lv_aload_n hx hb dX5_arrived_46 rfl (lv_at hl 0 rfl) ?_
      refine lv_aload_n hx hb dX5_arrived_47 rfl (lv_at hl 0 rfl) ?_
      refine gx_X5_3_1090 E hX hD hP dX5_arrived_48 ?_
      refine gx_X5_27_1000 E hX hD hP dX5_arrived_51 ?_
      refine lv_iload_n hx hb dX5_arrived_54 rfl (lv_at hl 1 rfl) ?_
      refine lv_iload_n hx hb dX5_arrived_55 rfl (lv_at hl 2 rfl) ?_
      obtain ⟨v5, u6, hf⟩ := bdP hf
      refine cx_X5_74_X3_unseen E hX hD hP hS hA (kxX3_unseen l D G hD rfl rfl rfl u6) ⟨rfl, rfl⟩ ⟨by dsimp only [rmG_T_TF, rmX3_unseen]; omega, by dsimp only [rmG_T_TF, rmX3_unseen]; omega⟩ ⟨Nat.zero_le _, Nat.zero_le _⟩ hl.1 (Nat.le_of_ble_eq_true rfl) dX5_arrived_56 (fun H locs hP hS => ?_)
      refine lv_iload_n hx hb dX5_arrived_59 rfl (lv_at hl 1 rfl) ?_
      refine lv_iload_n hx hb dX5_arrived_60 rfl (lv_at hl 2 rfl) ?_
      obtain ⟨v7, u8, hf⟩ := bdP hf
      refine cx_X5_114_X5_over_TF E hX hD hP hS hA (hrec_X5_over _ rfl rfl rfl rfl rfl rfl rfl rfl rfl rfl rfl rfl u8) ⟨rfl, rfl⟩ ⟨Nat.le_refl _, by dsimp only [rmG_T_TF]; omega⟩ ⟨Nat.zero_le _, Nat.zero_le _⟩ hl.1 (Nat.le_of_ble_eq_true rfl) dX5_arrived_61 (fun H locs hP hS => ?_)
      cases hf
      rw [hQ]; exact g_lret hx hb hr hlk hP hS dX5_arrived_64
    · have hf := ifT c4 hf
      refine lv_aload_n hx hb dX5_arrived_37 rfl (lv_at hl 0 rfl) ?_
      refine lv_iload_n hx hb dX5_arrived_38 rfl (lv_at hl 1 rfl) ?_
      refine lv_iload_n hx hb dX5_arrived_39 rfl (lv_at hl 2 rfl) ?_
      obtain ⟨v9, u10, hf⟩ := bdP hf
      refine cx_X5_81_X5_value_TF E hX hD hP hS hA (kxX5_value_TF l D G hD rfl u10) ⟨rfl, rfl⟩ ⟨by dsimp only [rmG_T_TF, rmX5_value_TF]; omega, by dsimp only [rmG_T_TF, rmX5_value_TF]; omega⟩ ⟨Nat.zero_le _, Nat.zero_le _⟩ hl.1 (Nat.le_of_ble_eq_true rfl) dX5_arrived_40 (fun H locs hP hS => ?_)
      refine lv_goto (tgt := 64) hx hb dX5_arrived_43 (by decide) ?_
      cases hf
      rw [hQ]; exact g_lret hx hb hr hlk hP hS dX5_arrived_64
  · have hf := ifT c1 hf
    refine lv_aload_n hx hb dX5_arrived_14 rfl (lv_at hl 0 rfl) ?_
    refine lv_iload_n hx hb dX5_arrived_15 rfl (lv_at hl 2 rfl) ?_
    obtain ⟨v11, u12, hf⟩ := bdP hf
    refine cx_X5_70_X8_end_TF E hX hD hP hS hA (kxX8_end_TF l D G hD rfl rfl rfl rfl rfl rfl rfl u12) ⟨rfl, rfl⟩ ⟨by dsimp only [rmG_T_TF, rmX8_end_TF]; omega, by dsimp only [rmG_T_TF, rmX8_end_TF]; omega⟩ ⟨Nat.zero_le _, Nat.zero_le _⟩ hl.1 (Nat.le_of_ble_eq_true rfl) dX5_arrived_16 (fun H locs hP hS => ?_)
    refine lv_goto (tgt := 64) hx hb dX5_arrived_19 (by decide) ?_
    cases hf
    rw [hQ]; exact g_lret hx hb hr hlk hP hS dX5_arrived_64
theorem kg_T_TF (l : Launch) (D : va_G) (G : Nat → ClassId) {dsc : Nat → Option Dsc} {ad : Nat → Nat} {nr nw nu : Nat} (hD : XD dsc nr nw nu) {z_TF_by : Int32} {z_TF_times : Int32} {z_TF_of : Int32} {z_L_to : Int32} {z_Ld_size : Int32} {z_TF_none : Int64} {a_X_knowing : Nat → Int32} {a_UNIT : Nat → Int32} {a_L_seen : Nat → Int32} {a_W_world : Nat → Int64} {a_W_likely : Nat → Int64} {a_TF_value : Nat → Int64} : ∀ d : Nat, (∀ (σ1 : Sto) {x1 : Int32} {x2 : Int32} {x3 : Int32} {r_ : Int64} (_ : σ1.1 1092 = z_TF_by) (_ : σ1.1 1094 = z_TF_times) (_ : σ1.1 1095 = z_TF_of) (_ : σ1.1 2013 = z_L_to) (_ : σ1.1 2027 = z_Ld_size) (_ : σ1.2.1 1091 = z_TF_none) (_ : σ1.2.2.1 1108 = a_X_knowing) (_ : σ1.2.2.1 1170 = a_UNIT) (_ : σ1.2.2.1 2043 = a_L_seen) (_ : σ1.2.2.2.1 1140 = a_W_world) (_ : σ1.2.2.2.1 1141 = a_W_likely) (_ : σ1.2.2.2.1 1153 = a_TF_value), (xg_T_TF z_TF_by z_TF_times z_TF_of z_L_to z_Ld_size z_TF_none a_X_knowing a_UNIT a_L_seen a_W_world a_W_likely a_TF_value d).1 x1 x2 x3 = some r_ → CtG l D G dsc ad yX5_over (ws_ yX5_over cX5_over 9 (Option.some Jvm.ClassFile.FieldType.long)) (rmG_T_TF d) [.ref (ad 1090), .int x1, .int x2, .int x3] σ1 (some (.long r_)) σ1) ∧ (∀ (σ1 : Sto) {x1 : Int32} {x2 : Int32} {x3 : Int32} {x4 : Int32} {x5 : Int32} {r_ : Int64} (_ : σ1.1 1092 = z_TF_by) (_ : σ1.1 1094 = z_TF_times) (_ : σ1.1 1095 = z_TF_of) (_ : σ1.1 2013 = z_L_to) (_ : σ1.1 2027 = z_Ld_size) (_ : σ1.2.1 1091 = z_TF_none) (_ : σ1.2.2.1 1108 = a_X_knowing) (_ : σ1.2.2.1 1170 = a_UNIT) (_ : σ1.2.2.1 2043 = a_L_seen) (_ : σ1.2.2.2.1 1140 = a_W_world) (_ : σ1.2.2.2.1 1141 = a_W_likely) (_ : σ1.2.2.2.1 1153 = a_TF_value), (xg_T_TF z_TF_by z_TF_times z_TF_of z_L_to z_Ld_size z_TF_none a_X_knowing a_UNIT a_L_seen a_W_world a_W_likely a_TF_value d).2.1 x1 x2 x3 x4 x5 = some r_ → CtG l D G dsc ad yX5_shown (ws_ yX5_shown cX5_shown 6 (Option.some Jvm.ClassFile.FieldType.long)) (rmG_T_TF d) [.ref (ad 1090), .int x1, .int x2, .int x3, .int x4, .int x5] σ1 (some (.long r_)) σ1) ∧ (∀ (σ1 : Sto) {x1 : Int32} {x2 : Int32} {r_ : Int64} (_ : σ1.1 1092 = z_TF_by) (_ : σ1.1 1094 = z_TF_times) (_ : σ1.1 1095 = z_TF_of) (_ : σ1.1 2013 = z_L_to) (_ : σ1.1 2027 = z_Ld_size) (_ : σ1.2.1 1091 = z_TF_none) (_ : σ1.2.2.1 1108 = a_X_knowing) (_ : σ1.2.2.1 1170 = a_UNIT) (_ : σ1.2.2.1 2043 = a_L_seen) (_ : σ1.2.2.2.1 1140 = a_W_world) (_ : σ1.2.2.2.1 1141 = a_W_likely) (_ : σ1.2.2.2.1 1153 = a_TF_value), (xg_T_TF z_TF_by z_TF_times z_TF_of z_L_to z_Ld_size z_TF_none a_X_knowing a_UNIT a_L_seen a_W_world a_W_likely a_TF_value d).2.2 x1 x2 = some r_ → CtG l D G dsc ad yX5_arrived (ws_ yX5_arrived cX5_arrived 3 (Option.some Jvm.ClassFile.FieldType.long)) (rmG_T_TF d) [.ref (ad 1090), .int x1, .int x2] σ1 (some (.long r_)) σ1) := by
  intro d
  induction d with
  | zero =>
    refine ⟨?_, ?_, ?_⟩ <;> (intros; rename_i hu; simp [xg_T_TF] at hu)
  | succ d ih =>
    refine ⟨?_, ?_, ?_⟩
    · intro σ x1 x2 x3 r_ e_zI1092 e_zI1094 e_zI1095 e_zI2013 e_zI2027 e_zL1091 e_aI1108 e_aI1170 e_aI2043 e_aL1140 e_aL1141 e_aL1153 hu
      subst e_zI1092
      subst e_zI1094
      subst e_zI1095
      subst e_zI2013
      subst e_zI2027
      subst e_zL1091
      subst e_aI1108
      subst e_aI1170
      subst e_aI2043
      subst e_aL1140
      subst e_aL1141
      subst e_aL1153
      exact p_ctG (by decide +kernel) (Nat.le_of_ble_eq_true rfl) (fun p e s m below meth c0 ls A E hP hX hA hS hl => wkX5_over_TF ih.1 ih.2.1 ih.2.2 E hX hD hA hu rfl hP hS hl)
    · intro σ x1 x2 x3 x4 x5 r_ e_zI1092 e_zI1094 e_zI1095 e_zI2013 e_zI2027 e_zL1091 e_aI1108 e_aI1170 e_aI2043 e_aL1140 e_aL1141 e_aL1153 hu
      subst e_zI1092
      subst e_zI1094
      subst e_zI1095
      subst e_zI2013
      subst e_zI2027
      subst e_zL1091
      subst e_aI1108
      subst e_aI1170
      subst e_aI2043
      subst e_aL1140
      subst e_aL1141
      subst e_aL1153
      exact p_ctG (by decide +kernel) (Nat.le_of_ble_eq_true rfl) (fun p e s m below meth c0 ls A E hP hX hA hS hl => wkX5_shown_TF ih.1 ih.2.1 ih.2.2 E hX hD hA hu rfl hP hS hl)
    · intro σ x1 x2 r_ e_zI1092 e_zI1094 e_zI1095 e_zI2013 e_zI2027 e_zL1091 e_aI1108 e_aI1170 e_aI2043 e_aL1140 e_aL1141 e_aL1153 hu
      subst e_zI1092
      subst e_zI1094
      subst e_zI1095
      subst e_zI2013
      subst e_zI2027
      subst e_zL1091
      subst e_aI1108
      subst e_aI1170
      subst e_aI2043
      subst e_aL1140
      subst e_aL1141
      subst e_aL1153
      exact p_ctG (by decide +kernel) (Nat.le_of_ble_eq_true rfl) (fun p e s m below meth c0 ls A E hP hX hA hS hl => wkX5_arrived_TF ih.1 ih.2.1 ih.2.2 E hX hD hA hu rfl hP hS hl)
theorem kxX5_over_TF (l : Launch) (D : va_G) (G : Nat → ClassId) {dsc : Nat → Option Dsc} {ad : Nat → Nat} {σ : Sto} {nr nw nu : Nat} (hD : XD dsc nr nw nu) {x1 : Int32} {x2 : Int32} {x3 : Int32} {r_ : Int64} {z_TF_by : Int32} (e_zI1092 : σ.1 1092 = z_TF_by) {z_TF_times : Int32} (e_zI1094 : σ.1 1094 = z_TF_times) {z_TF_of : Int32} (e_zI1095 : σ.1 1095 = z_TF_of) {z_L_to : Int32} (e_zI2013 : σ.1 2013 = z_L_to) {z_Ld_size : Int32} (e_zI2027 : σ.1 2027 = z_Ld_size) {z_TF_none : Int64} (e_zL1091 : σ.2.1 1091 = z_TF_none) {a_X_knowing : Nat → Int32} (e_aI1108 : σ.2.2.1 1108 = a_X_knowing) {a_UNIT : Nat → Int32} (e_aI1170 : σ.2.2.1 1170 = a_UNIT) {a_L_seen : Nat → Int32} (e_aI2043 : σ.2.2.1 2043 = a_L_seen) {a_W_world : Nat → Int64} (e_aL1140 : σ.2.2.2.1 1140 = a_W_world) {a_W_likely : Nat → Int64} (e_aL1141 : σ.2.2.2.1 1141 = a_W_likely) {a_TF_value : Nat → Int64} (e_aL1153 : σ.2.2.2.1 1153 = a_TF_value) (hf : (xg_T_TF z_TF_by z_TF_times z_TF_of z_L_to z_Ld_size z_TF_none a_X_knowing a_UNIT a_L_seen a_W_world a_W_likely a_TF_value 40).1 x1 x2 x3 = some r_) : CtG l D G dsc ad yX5_over (ws_ yX5_over cX5_over 9 (Option.some Jvm.ClassFile.FieldType.long)) rmX5_over_TF [.ref (ad 1090), .int x1, .int x2, .int x3] σ (some (.long r_)) σ :=
  (kg_T_TF l D G hD 40).1 σ e_zI1092 e_zI1094 e_zI1095 e_zI2013 e_zI2027 e_zL1091 e_aI1108 e_aI1170 e_aI2043 e_aL1140 e_aL1141 e_aL1153 hf
theorem kxX5_shown_TF (l : Launch) (D : va_G) (G : Nat → ClassId) {dsc : Nat → Option Dsc} {ad : Nat → Nat} {σ : Sto} {nr nw nu : Nat} (hD : XD dsc nr nw nu) {x1 : Int32} {x2 : Int32} {x3 : Int32} {x4 : Int32} {x5 : Int32} {r_ : Int64} {z_TF_by : Int32} (e_zI1092 : σ.1 1092 = z_TF_by) {z_TF_times : Int32} (e_zI1094 : σ.1 1094 = z_TF_times) {z_TF_of : Int32} (e_zI1095 : σ.1 1095 = z_TF_of) {z_L_to : Int32} (e_zI2013 : σ.1 2013 = z_L_to) {z_Ld_size : Int32} (e_zI2027 : σ.1 2027 = z_Ld_size) {z_TF_none : Int64} (e_zL1091 : σ.2.1 1091 = z_TF_none) {a_X_knowing : Nat → Int32} (e_aI1108 : σ.2.2.1 1108 = a_X_knowing) {a_UNIT : Nat → Int32} (e_aI1170 : σ.2.2.1 1170 = a_UNIT) {a_L_seen : Nat → Int32} (e_aI2043 : σ.2.2.1 2043 = a_L_seen) {a_W_world : Nat → Int64} (e_aL1140 : σ.2.2.2.1 1140 = a_W_world) {a_W_likely : Nat → Int64} (e_aL1141 : σ.2.2.2.1 1141 = a_W_likely) {a_TF_value : Nat → Int64} (e_aL1153 : σ.2.2.2.1 1153 = a_TF_value) (hf : (xg_T_TF z_TF_by z_TF_times z_TF_of z_L_to z_Ld_size z_TF_none a_X_knowing a_UNIT a_L_seen a_W_world a_W_likely a_TF_value 40).2.1 x1 x2 x3 x4 x5 = some r_) : CtG l D G dsc ad yX5_shown (ws_ yX5_shown cX5_shown 6 (Option.some Jvm.ClassFile.FieldType.long)) rmX5_shown_TF [.ref (ad 1090), .int x1, .int x2, .int x3, .int x4, .int x5] σ (some (.long r_)) σ :=
  (kg_T_TF l D G hD 40).2.1 σ e_zI1092 e_zI1094 e_zI1095 e_zI2013 e_zI2027 e_zL1091 e_aI1108 e_aI1170 e_aI2043 e_aL1140 e_aL1141 e_aL1153 hf
theorem kxX5_arrived_TF (l : Launch) (D : va_G) (G : Nat → ClassId) {dsc : Nat → Option Dsc} {ad : Nat → Nat} {σ : Sto} {nr nw nu : Nat} (hD : XD dsc nr nw nu) {x1 : Int32} {x2 : Int32} {r_ : Int64} {z_TF_by : Int32} (e_zI1092 : σ.1 1092 = z_TF_by) {z_TF_times : Int32} (e_zI1094 : σ.1 1094 = z_TF_times) {z_TF_of : Int32} (e_zI1095 : σ.1 1095 = z_TF_of) {z_L_to : Int32} (e_zI2013 : σ.1 2013 = z_L_to) {z_Ld_size : Int32} (e_zI2027 : σ.1 2027 = z_Ld_size) {z_TF_none : Int64} (e_zL1091 : σ.2.1 1091 = z_TF_none) {a_X_knowing : Nat → Int32} (e_aI1108 : σ.2.2.1 1108 = a_X_knowing) {a_UNIT : Nat → Int32} (e_aI1170 : σ.2.2.1 1170 = a_UNIT) {a_L_seen : Nat → Int32} (e_aI2043 : σ.2.2.1 2043 = a_L_seen) {a_W_world : Nat → Int64} (e_aL1140 : σ.2.2.2.1 1140 = a_W_world) {a_W_likely : Nat → Int64} (e_aL1141 : σ.2.2.2.1 1141 = a_W_likely) {a_TF_value : Nat → Int64} (e_aL1153 : σ.2.2.2.1 1153 = a_TF_value) (hf : (xg_T_TF z_TF_by z_TF_times z_TF_of z_L_to z_Ld_size z_TF_none a_X_knowing a_UNIT a_L_seen a_W_world a_W_likely a_TF_value 40).2.2 x1 x2 = some r_) : CtG l D G dsc ad yX5_arrived (ws_ yX5_arrived cX5_arrived 3 (Option.some Jvm.ClassFile.FieldType.long)) rmX5_arrived_TF [.ref (ad 1090), .int x1, .int x2] σ (some (.long r_)) σ :=
  (kg_T_TF l D G hD 40).2.2 σ e_zI1092 e_zI1094 e_zI1095 e_zI2013 e_zI2027 e_zL1091 e_aI1108 e_aI1170 e_aI2043 e_aL1140 e_aL1141 e_aL1153 hf
/-! X5_arriving_TF (II)J -/
abbrev rmX5_arriving_TF : Room := { frames := 44, cells := 0, slots := 0, locals := 1216 }
set_option maxHeartbeats 4000000 in
theorem wkX5_arriving_TF {x1 : Int32} {x2 : Int32} {r_ : Int64} (E : EN p s m args meth c0 RX5 cX5_arriving 3 (Option.some Jvm.ClassFile.FieldType.long)) (hX : KX D G ad A s s.heap) (hD : XD dsc nr nw nu) (hA : ∀ q, PA dsc ad s.heap.size q → A q) (hf : xo_X5_arriving_TF (σ.1 1092) (σ.1 1094) (σ.1 1095) (σ.1 2013) (σ.1 2027) (σ.2.1 1091) (σ.2.2.1 1108) (σ.2.2.1 1170) (σ.2.2.1 2043) (σ.2.2.2.1 1140) (σ.2.2.2.1 1141) (σ.2.2.2.1 1153) x1 x2 = some r_) (hQ : Q = MQ below (va_G1 (some (.long r_)) (fun t => PIC D clsA G dsc ad σ t.heap) A) args s 0 0 A) (hP : PIC D clsA G dsc ad σ H) (hS : va_S A s.heap H locs) (hl : lv_has ls 3 [(0, .ref (ad 1090)), (1, .int x1), (2, .int x2)]) : W p l e rmX5_arriving_TF s m args below meth c0 H locs 0 0 Q (F0 m 0 ls []) := by
  obtain ⟨⟨hx, hb, hml, hown, hts⟩, hr, hlk⟩ := id E
  unfold xo_X5_arriving_TF at hf
  refine lv_iload_n hx hb dX5_arriving_0 rfl (lv_at hl 1 rfl) ?_
  refine lv_aload_n hx hb dX5_arriving_1 rfl (lv_at hl 0 rfl) ?_
  refine gx_X5_3_1090 E hX hD hP dX5_arriving_2 ?_
  refine gx_X5_27_1000 E hX hD hP dX5_arriving_5 ?_
  refine gx_X5_67_2000 (v := (σ.1 2013)) E hX hD hP rfl dX5_arriving_8 ?_
  refine lv_icmp_ne (tgt := 22) hx hb dX5_arriving_11 (by decide) (fun c1 => ?_) (fun c1 => ?_)
  · have hf := ifF c1 hf
    refine lv_aload_n hx hb dX5_arriving_22 rfl (lv_at hl 0 rfl) ?_
    refine lv_aload_n hx hb dX5_arriving_23 rfl (lv_at hl 0 rfl) ?_
    refine gx_X5_3_1090 E hX hD hP dX5_arriving_24 ?_
    refine gx_X5_27_1000 E hX hD hP dX5_arriving_27 ?_
    refine lv_iload_n hx hb dX5_arriving_30 rfl (lv_at hl 1 rfl) ?_
    refine lv_iload_n hx hb dX5_arriving_31 rfl (lv_at hl 2 rfl) ?_
    obtain ⟨v2, u3, hf⟩ := bdP hf
    refine cx_X5_74_X3_unseen E hX hD hP hS hA (kxX3_unseen l D G hD rfl rfl rfl u3) ⟨rfl, rfl⟩ ⟨Nat.le_of_ble_eq_true rfl, Nat.le_of_ble_eq_true rfl⟩ ⟨Nat.zero_le _, Nat.zero_le _⟩ hl.1 (Nat.le_of_ble_eq_true rfl) dX5_arriving_32 (fun H locs hP hS => ?_)
    refine lv_iload_n hx hb dX5_arriving_35 rfl (lv_at hl 1 rfl) ?_
    refine lv_iload_n hx hb dX5_arriving_36 rfl (lv_at hl 2 rfl) ?_
    obtain ⟨v4, u5, hf⟩ := bdP hf
    refine cx_X5_114_X5_over_TF E hX hD hP hS hA (kxX5_over_TF l D G hD rfl rfl rfl rfl rfl rfl rfl rfl rfl rfl rfl rfl u5) ⟨rfl, rfl⟩ ⟨Nat.le_of_ble_eq_true rfl, Nat.le_of_ble_eq_true rfl⟩ ⟨Nat.zero_le _, Nat.zero_le _⟩ hl.1 (Nat.le_of_ble_eq_true rfl) dX5_arriving_37 (fun H locs hP hS => ?_)
    cases hf
    rw [hQ]; exact g_lret hx hb hr hlk hP hS dX5_arriving_40
  · have hf := ifT c1 hf
    refine lv_aload_n hx hb dX5_arriving_14 rfl (lv_at hl 0 rfl) ?_
    refine lv_iload_n hx hb dX5_arriving_15 rfl (lv_at hl 2 rfl) ?_
    obtain ⟨v6, u7, hf⟩ := bdP hf
    refine cx_X5_70_X8_end_TF E hX hD hP hS hA (kxX8_end_TF l D G hD rfl rfl rfl rfl rfl rfl rfl u7) ⟨rfl, rfl⟩ ⟨Nat.le_of_ble_eq_true rfl, Nat.le_of_ble_eq_true rfl⟩ ⟨Nat.zero_le _, Nat.zero_le _⟩ hl.1 (Nat.le_of_ble_eq_true rfl) dX5_arriving_16 (fun H locs hP hS => ?_)
    refine lv_goto (tgt := 40) hx hb dX5_arriving_19 (by decide) ?_
    cases hf
    rw [hQ]; exact g_lret hx hb hr hlk hP hS dX5_arriving_40
theorem kxX5_arriving_TF (l : Launch) (D : va_G) (G : Nat → ClassId) {dsc : Nat → Option Dsc} {ad : Nat → Nat} {σ : Sto} {nr nw nu : Nat} (hD : XD dsc nr nw nu) {x1 : Int32} {x2 : Int32} {r_ : Int64} {z_TF_by : Int32} (e_zI1092 : σ.1 1092 = z_TF_by) {z_TF_times : Int32} (e_zI1094 : σ.1 1094 = z_TF_times) {z_TF_of : Int32} (e_zI1095 : σ.1 1095 = z_TF_of) {z_L_to : Int32} (e_zI2013 : σ.1 2013 = z_L_to) {z_Ld_size : Int32} (e_zI2027 : σ.1 2027 = z_Ld_size) {z_TF_none : Int64} (e_zL1091 : σ.2.1 1091 = z_TF_none) {a_X_knowing : Nat → Int32} (e_aI1108 : σ.2.2.1 1108 = a_X_knowing) {a_UNIT : Nat → Int32} (e_aI1170 : σ.2.2.1 1170 = a_UNIT) {a_L_seen : Nat → Int32} (e_aI2043 : σ.2.2.1 2043 = a_L_seen) {a_W_world : Nat → Int64} (e_aL1140 : σ.2.2.2.1 1140 = a_W_world) {a_W_likely : Nat → Int64} (e_aL1141 : σ.2.2.2.1 1141 = a_W_likely) {a_TF_value : Nat → Int64} (e_aL1153 : σ.2.2.2.1 1153 = a_TF_value) (hf : xo_X5_arriving_TF z_TF_by z_TF_times z_TF_of z_L_to z_Ld_size z_TF_none a_X_knowing a_UNIT a_L_seen a_W_world a_W_likely a_TF_value x1 x2 = some r_) : CtG l D G dsc ad yX5_arriving (ws_ yX5_arriving cX5_arriving 3 (Option.some Jvm.ClassFile.FieldType.long)) rmX5_arriving_TF [.ref (ad 1090), .int x1, .int x2] σ (some (.long r_)) σ := by
  subst e_zI1092
  subst e_zI1094
  subst e_zI1095
  subst e_zI2013
  subst e_zI2027
  subst e_zL1091
  subst e_aI1108
  subst e_aI1170
  subst e_aI2043
  subst e_aL1140
  subst e_aL1141
  subst e_aL1153
  exact p_ctG (by decide +kernel) (Nat.le_of_ble_eq_true rfl) (fun p e s m below meth c0 ls A E hP hX hA hS hl => wkX5_arriving_TF E hX hD hA hf rfl hP hS hl)
/-! X8_ahead_TF (JII)J -/
abbrev rmX8_ahead_TF : Room := { frames := 0, cells := 0, slots := 0, locals := 0 }
set_option maxHeartbeats 4000000 in
theorem wkX8_ahead_TF {x1 : Int64} {x3 : Int32} {x4 : Int32} {r_ : Int64} (E : EN p s m args meth c0 RX8 cX8_ahead 5 (Option.some Jvm.ClassFile.FieldType.long)) (hX : KX D G ad A s s.heap) (hD : XD dsc nr nw nu) (hA : ∀ q, PA dsc ad s.heap.size q → A q) (hf : xo_X8_ahead_TF x1 x3 x4 = some r_) (hQ : Q = MQ below (va_G1 (some (.long r_)) (fun t => PIC D clsA G dsc ad σ t.heap) A) args s 0 0 A) (hP : PIC D clsA G dsc ad σ H) (hS : va_S A s.heap H locs) (hl : lv_has ls 5 [(0, .ref (ad 1090)), (1, .long x1), (3, .int x3), (4, .int x4)]) : W p l e rmX8_ahead_TF s m args below meth c0 H locs 0 0 Q (F0 m 0 ls []) := by
  obtain ⟨⟨hx, hb, hml, hown, hts⟩, hr, hlk⟩ := id E
  unfold xo_X8_ahead_TF at hf
  refine lv_lload_n hx hb dX8_ahead_0 rfl (lv_at hl 1 rfl) ?_
  refine lv_iload_n hx hb dX8_ahead_1 rfl (lv_at hl 2 rfl) ?_
  refine lv_i2l hx hb dX8_ahead_2 rfl ?_
  refine lv_lsub hx hb dX8_ahead_3 ?_
  cases hf
  rw [hQ]; exact g_lret hx hb hr hlk hP hS dX8_ahead_4
theorem kxX8_ahead_TF (l : Launch) (D : va_G) (G : Nat → ClassId) {dsc : Nat → Option Dsc} {ad : Nat → Nat} {σ : Sto} {nr nw nu : Nat} (hD : XD dsc nr nw nu) {x1 : Int64} {x3 : Int32} {x4 : Int32} {r_ : Int64} (hf : xo_X8_ahead_TF x1 x3 x4 = some r_) : CtG l D G dsc ad yX8_ahead (ws_ yX8_ahead cX8_ahead 5 (Option.some Jvm.ClassFile.FieldType.long)) rmX8_ahead_TF [.ref (ad 1090), .long x1, .int x3, .int x4] σ (some (.long r_)) σ := by
  exact p_ctG (by decide +kernel) (Nat.le_of_ble_eq_true rfl) (fun p e s m below meth c0 ls A E hP hX hA hS hl => wkX8_ahead_TF E hX hD hA hf rfl hP hS hl)
theorem cx_X5_107_X5_arriving_TF {rm : Room} {σ1 : Sto} {x1 : Int32} {x2 : Int32} {r : Int64} (E : EN p s m args meth c0 RX5 cc nL ret) (hX : KX D G ad A s s.heap) (hD : XD dsc nr nw nu) (hP : PIC D clsA G dsc ad σ H) (hS : va_S A s.heap H locs) (hA : ∀ q, PA dsc ad s.heap.size q → A q) (hM : CtG l D G dsc ad yX5_arriving (ws_ yX5_arriving cX5_arriving 3 (Option.some Jvm.ClassFile.FieldType.long)) rm [.ref (ad 1090), .int x1, .int x2] σ (some (.long r)) σ1) (hz : rm.cells = 0 ∧ rm.slots = 0) (hR : rm.frames + 1 ≤ R.frames ∧ 8 + (3 + 11) + rm.locals ≤ R.locals) (hcs : cells ≤ R.cells ∧ slots ≤ R.slots) (hsz : ls.size = nL) (hW : (rest.map fun v => v.category).sum ≤ 8) (hdg : decode cc pc = .ok (.invokevirtual 107, 3)) (kk : ∀ (H1 : Heap) (locs1 : List Loc), PIC D clsA G dsc ad σ1 H1 → va_S A s.heap H1 locs1 → W p l e R s m args below meth c0 H1 locs1 cells slots Q (F0 m (pc + 3) ls (.long r :: rest))) : W p l e R s m args below meth c0 H locs cells slots Q (F0 m pc ls (.int x2 :: .int x1 :: .ref (ad 1090) :: rest)) :=
  p_gU (As := [.int x1, .int x2]) (rest := rest) E.1 hX hP hS hA hM (cw_any (owner := "ShutPasses$Table") (x := ⟨"ShutPasses$Table", "arriving", "(II)J"⟩) (y := yX5_arriving) (C := "ShutPasses$Spare") (index := 107) (own := RX5) 2 E.1.2.2.2.2 (lw_meth q1117) rfl hz.1 hz.2 (E.1.2.2.2.2 _ q1111) (E.1.2.2.2.2 _ q1113) (va_Decl.of (E.1.2.2.2.2 _ q1112) (E.1.2.2.2.2 _ q1117)) (E.1.2.2.2.2 _ q1116) (E.1.2.2.2.2 _ q1112) (E.1.2.2.2.2 _ q131) (by decide +kernel) hR) (hD.1 _ _ dX_1090) rfl rfl rfl hsz rfl hW hdg hcs kk
theorem cx_X5_110_X8_ahead_TF {rm : Room} {σ1 : Sto} {x1 : Int64} {x3 : Int32} {x4 : Int32} {r : Int64} (E : EN p s m args meth c0 RX5 cc nL ret) (hX : KX D G ad A s s.heap) (hD : XD dsc nr nw nu) (hP : PIC D clsA G dsc ad σ H) (hS : va_S A s.heap H locs) (hA : ∀ q, PA dsc ad s.heap.size q → A q) (hM : CtG l D G dsc ad yX8_ahead (ws_ yX8_ahead cX8_ahead 5 (Option.some Jvm.ClassFile.FieldType.long)) rm [.ref (ad 1090), .long x1, .int x3, .int x4] σ (some (.long r)) σ1) (hz : rm.cells = 0 ∧ rm.slots = 0) (hR : rm.frames + 1 ≤ R.frames ∧ 8 + (5 + 11) + rm.locals ≤ R.locals) (hcs : cells ≤ R.cells ∧ slots ≤ R.slots) (hsz : ls.size = nL) (hW : (rest.map fun v => v.category).sum ≤ 8) (hdg : decode cc pc = .ok (.invokevirtual 110, 3)) (kk : ∀ (H1 : Heap) (locs1 : List Loc), PIC D clsA G dsc ad σ1 H1 → va_S A s.heap H1 locs1 → W p l e R s m args below meth c0 H1 locs1 cells slots Q (F0 m (pc + 3) ls (.long r :: rest))) : W p l e R s m args below meth c0 H locs cells slots Q (F0 m pc ls (.int x4 :: .int x3 :: .long x1 :: .ref (ad 1090) :: rest)) :=
  p_gU (As := [.long x1, .int x3, .int x4]) (rest := rest) E.1 hX hP hS hA hM (cw_any (owner := "ShutPasses$Table") (x := ⟨"ShutPasses$Table", "ahead", "(JII)J"⟩) (y := yX8_ahead) (C := "ShutPasses$Spare") (index := 110) (own := RX5) 3 E.1.2.2.2.2 (lw_meth q1166) rfl hz.1 hz.2 (E.1.2.2.2.2 _ q1155) (E.1.2.2.2.2 _ q1157) (va_Decl.abs (hX.2.1.1 _ q1156 rfl)) (E.1.2.2.2.2 _ q1164) (E.1.2.2.2.2 _ q1165) (E.1.2.2.2.2 _ q134) (by decide +kernel) hR) (hD.1 _ _ dX_1090) rfl rfl rfl hsz rfl hW hdg hcs kk
/-! X5_going_TF (III)J -/
abbrev rmX5_going_TF : Room := { frames := 45, cells := 0, slots := 0, locals := 1238 }
set_option maxHeartbeats 4000000 in
theorem wkX5_going_TF {x1 : Int32} {x2 : Int32} {x3 : Int32} {r_ : Int64} (E : EN p s m args meth c0 RX5 cX5_going 7 (Option.some Jvm.ClassFile.FieldType.long)) (hX : KX D G ad A s s.heap) (hD : XD dsc nr nw nu) (hA : ∀ q, PA dsc ad s.heap.size q → A q) (hf : xo_X5_going_TF (σ.1 1092) (σ.1 1094) (σ.1 1095) (σ.1 2013) (σ.1 2027) (σ.2.1 1091) (σ.2.2.1 1108) (σ.2.2.1 1170) (σ.2.2.1 2043) (σ.2.2.2.1 1140) (σ.2.2.2.1 1141) (σ.2.2.2.1 1153) nr (fun k => σ.1 (6000 + 16 * k + 2)) (fun k => σ.1 (6000 + 16 * k + 5)) (fun k => σ.1 (6000 + 16 * k + 6)) (fun k => σ.2.2.1 (4000 + 16 * k)) x1 x2 x3 = some r_) (hQ : Q = MQ below (va_G1 (some (.long r_)) (fun t => PIC D clsA G dsc ad σ t.heap) A) args s 0 0 A) (hP : PIC D clsA G dsc ad σ H) (hS : va_S A s.heap H locs) (hl : lv_has ls 7 [(0, .ref (ad 1090)), (1, .int x1), (2, .int x2), (3, .int x3)]) : W p l e rmX5_going_TF s m args below meth c0 H locs 0 0 Q (F0 m 0 ls []) := by
  obtain ⟨⟨hx, hb, hml, hown, hts⟩, hr, hlk⟩ := id E
  unfold xo_X5_going_TF at hf
  refine lv_aload_n hx hb dX5_going_0 rfl (lv_at hl 0 rfl) ?_
  refine gx_X5_3_1090 E hX hD hP dX5_going_1 ?_
  refine gx_X5_27_1000 E hX hD hP dX5_going_4 ?_
  refine lv_iload_n hx hb dX5_going_7 rfl (lv_at hl 1 rfl) ?_
  refine lv_iload_n hx hb dX5_going_8 rfl (lv_at hl 2 rfl) ?_
  refine lv_iload_n hx hb dX5_going_9 rfl (lv_at hl 3 rfl) ?_
  obtain ⟨v1, u2, hf⟩ := bdP hf
  refine cx_X5_102_X3_cost E hX hD hP hS hA (kxX3_cost l D G hD rfl rfl rfl rfl rfl rfl u2) ⟨rfl, rfl⟩ ⟨Nat.le_of_ble_eq_true rfl, Nat.le_of_ble_eq_true rfl⟩ ⟨Nat.zero_le _, Nat.zero_le _⟩ hl.1 (Nat.le_of_ble_eq_true rfl) dX5_going_10 (fun H locs hP hS => ?_)
  refine lv_istore (lv' := [(4, .int v1), (0, .ref (ad 1090)), (1, .int x1), (2, .int x2), (3, .int x3)]) hx hb dX5_going_13 hl (by decide) rfl (fun ls hl => ?_)
  refine lv_iload hx hb dX5_going_15 (lv_at hl 0 rfl) ?_
  refine lv_ldc hx hb hown (hts _ q1110) dX5_going_17 ?_
  refine lv_icmp_ne (tgt := 27) hx hb dX5_going_19 (by decide) (fun c3 => ?_) (fun c3 => ?_)
  · have hf := ifF c3 hf
    refine lv_aload_n hx hb dX5_going_27 rfl (lv_at hl 1 rfl) ?_
    refine lv_iload_n hx hb dX5_going_28 rfl (lv_at hl 3 rfl) ?_
    refine lv_iload_n hx hb dX5_going_29 rfl (lv_at hl 4 rfl) ?_
    obtain ⟨v4, u5, hf⟩ := bdP hf
    refine cx_X5_107_X5_arriving_TF E hX hD hP hS hA (kxX5_arriving_TF l D G hD rfl rfl rfl rfl rfl rfl rfl rfl rfl rfl rfl rfl u5) ⟨rfl, rfl⟩ ⟨Nat.le_of_ble_eq_true rfl, Nat.le_of_ble_eq_true rfl⟩ ⟨Nat.zero_le _, Nat.zero_le _⟩ hl.1 (Nat.le_of_ble_eq_true rfl) dX5_going_30 (fun H locs hP hS => ?_)
    refine lv_lstore (lv' := [(5, .long v4), (4, .int v1), (0, .ref (ad 1090)), (1, .int x1), (2, .int x2), (3, .int x3)]) hx hb dX5_going_33 hl (by decide) rfl (fun ls hl => ?_)
    refine lv_lload hx hb dX5_going_35 (lv_at hl 0 rfl) ?_
    refine lv_aload_n hx hb dX5_going_37 rfl (lv_at hl 2 rfl) ?_
    refine gx_X5_19_1090 (v := (σ.2.1 1091)) E hX hD hP rfl dX5_going_38 ?_
    refine W.lcmp hx hb dX5_going_41 ?_
    refine lv_if_ne (tgt := 52) hx hb dX5_going_42 (by decide) (fun c6 => ?_) (fun c6 => ?_)
    · have hf := ifF (mt (lgc_eq _ _).mpr c6) hf
      refine lv_aload_n hx hb dX5_going_52 rfl (lv_at hl 2 rfl) ?_
      refine lv_lload hx hb dX5_going_53 (lv_at hl 0 rfl) ?_
      refine lv_iload hx hb dX5_going_55 (lv_at hl 1 rfl) ?_
      refine lv_iload_n hx hb dX5_going_57 rfl (lv_at hl 5 rfl) ?_
      obtain ⟨v7, u8, hf⟩ := bdP hf
      refine cx_X5_110_X8_ahead_TF E hX hD hP hS hA (kxX8_ahead_TF l D G hD u8) ⟨rfl, rfl⟩ ⟨Nat.le_of_ble_eq_true rfl, Nat.le_of_ble_eq_true rfl⟩ ⟨Nat.zero_le _, Nat.zero_le _⟩ hl.1 (Nat.le_of_ble_eq_true rfl) dX5_going_58 (fun H locs hP hS => ?_)
      cases hf
      rw [hQ]; exact g_lret hx hb hr hlk hP hS dX5_going_61
    · have hf := ifT ((lgc_eq _ _).mp c6) hf
      refine lv_aload_n hx hb dX5_going_45 rfl (lv_at hl 2 rfl) ?_
      refine gx_X5_19_1090 (v := (σ.2.1 1091)) E hX hD hP rfl dX5_going_46 ?_
      refine lv_goto (tgt := 61) hx hb dX5_going_49 (by decide) ?_
      cases hf
      rw [hQ]; exact g_lret hx hb hr hlk hP hS dX5_going_61
  · have hf := ifT c3 hf
    refine lv_aload_n hx hb dX5_going_22 rfl (lv_at hl 1 rfl) ?_
    refine gx_X5_19_1090 (v := (σ.2.1 1091)) E hX hD hP rfl dX5_going_23 ?_
    cases hf
    rw [hQ]; exact g_lret hx hb hr hlk hP hS dX5_going_26
theorem kxX5_going_TF (l : Launch) (D : va_G) (G : Nat → ClassId) {dsc : Nat → Option Dsc} {ad : Nat → Nat} {σ : Sto} {nr nw nu : Nat} (hD : XD dsc nr nw nu) {x1 : Int32} {x2 : Int32} {x3 : Int32} {r_ : Int64} {z_TF_by : Int32} (e_zI1092 : σ.1 1092 = z_TF_by) {z_TF_times : Int32} (e_zI1094 : σ.1 1094 = z_TF_times) {z_TF_of : Int32} (e_zI1095 : σ.1 1095 = z_TF_of) {z_L_to : Int32} (e_zI2013 : σ.1 2013 = z_L_to) {z_Ld_size : Int32} (e_zI2027 : σ.1 2027 = z_Ld_size) {z_TF_none : Int64} (e_zL1091 : σ.2.1 1091 = z_TF_none) {a_X_knowing : Nat → Int32} (e_aI1108 : σ.2.2.1 1108 = a_X_knowing) {a_UNIT : Nat → Int32} (e_aI1170 : σ.2.2.1 1170 = a_UNIT) {a_L_seen : Nat → Int32} (e_aI2043 : σ.2.2.1 2043 = a_L_seen) {a_W_world : Nat → Int64} (e_aL1140 : σ.2.2.2.1 1140 = a_W_world) {a_W_likely : Nat → Int64} (e_aL1141 : σ.2.2.2.1 1141 = a_W_likely) {a_TF_value : Nat → Int64} (e_aL1153 : σ.2.2.2.1 1153 = a_TF_value) {n_r : Nat} (e_nN0 : nr = n_r) {p_road_hours : Nat → Int32} (e_pR2 : (fun k => σ.1 (6000 + 16 * k + 2)) = p_road_hours) {p_road_wait : Nat → Int32} (e_pR5 : (fun k => σ.1 (6000 + 16 * k + 5)) = p_road_wait) {p_road_number : Nat → Int32} (e_pR6 : (fun k => σ.1 (6000 + 16 * k + 6)) = p_road_number) {g_grid : Nat → Nat → Int32} (e_gG0 : (fun k => σ.2.2.1 (4000 + 16 * k)) = g_grid) (hf : xo_X5_going_TF z_TF_by z_TF_times z_TF_of z_L_to z_Ld_size z_TF_none a_X_knowing a_UNIT a_L_seen a_W_world a_W_likely a_TF_value n_r p_road_hours p_road_wait p_road_number g_grid x1 x2 x3 = some r_) : CtG l D G dsc ad yX5_going (ws_ yX5_going cX5_going 7 (Option.some Jvm.ClassFile.FieldType.long)) rmX5_going_TF [.ref (ad 1090), .int x1, .int x2, .int x3] σ (some (.long r_)) σ := by
  subst e_zI1092
  subst e_zI1094
  subst e_zI1095
  subst e_zI2013
  subst e_zI2027
  subst e_zL1091
  subst e_aI1108
  subst e_aI1170
  subst e_aI2043
  subst e_aL1140
  subst e_aL1141
  subst e_aL1153
  subst e_nN0
  subst e_pR2
  subst e_pR5
  subst e_pR6
  subst e_gG0
  exact p_ctG (by decide +kernel) (Nat.le_of_ble_eq_true rfl) (fun p e s m below meth c0 ls A E hP hX hA hS hl => wkX5_going_TF E hX hD hA hf rfl hP hS hl)
/-! X5_buying_TF (III)J -/
abbrev rmX5_buying_TF : Room := { frames := 44, cells := 0, slots := 0, locals := 1216 }
set_option maxHeartbeats 4000000 in
theorem wkX5_buying_TF {x1 : Int32} {x2 : Int32} {x3 : Int32} {r_ : Int64} (E : EN p s m args meth c0 RX5 cX5_buying 7 (Option.some Jvm.ClassFile.FieldType.long)) (hX : KX D G ad A s s.heap) (hD : XD dsc nr nw nu) (hA : ∀ q, PA dsc ad s.heap.size q → A q) (hf : xo_X5_buying_TF (σ.1 1092) (σ.1 1094) (σ.1 1095) (σ.1 2013) (σ.1 2027) (σ.1 2032) (σ.2.1 1091) (σ.2.2.1 1108) (σ.2.2.1 1170) (σ.2.2.1 2037) (σ.2.2.1 2043) (σ.2.2.2.1 1140) (σ.2.2.2.1 1141) (σ.2.2.2.1 1153) nw (fun k => σ.1 (8000 + 16 * k + 0)) (fun k => σ.1 (8000 + 16 * k + 1)) (fun k => σ.1 (8000 + 16 * k + 2)) x1 x2 x3 = some r_) (hQ : Q = MQ below (va_G1 (some (.long r_)) (fun t => PIC D clsA G dsc ad σ t.heap) A) args s 0 0 A) (hP : PIC D clsA G dsc ad σ H) (hS : va_S A s.heap H locs) (hl : lv_has ls 7 [(0, .ref (ad 1090)), (1, .int x1), (2, .int x2), (3, .int x3)]) : W p l e rmX5_buying_TF s m args below meth c0 H locs 0 0 Q (F0 m 0 ls []) := by
  obtain ⟨⟨hx, hb, hml, hown, hts⟩, hr, hlk⟩ := id E
  unfold xo_X5_buying_TF at hf
  refine lv_aload_n hx hb dX5_buying_0 rfl (lv_at hl 0 rfl) ?_
  refine gx_X5_3_1090 E hX hD hP dX5_buying_1 ?_
  refine gx_X5_27_1000 E hX hD hP dX5_buying_4 ?_
  refine gx_X5_92_2000 E hX hD hP dX5_buying_7 ?_
  refine lv_iload_n hx hb dX5_buying_10 rfl (lv_at hl 2 rfl) ?_
  obtain ⟨v1, u2, hf⟩ := bdP hf
  refine cx_X5_135_J2_get_Lw E hX hD hP hS hA (kxJ2_get_Lw l D G hD rfl rfl u2) ⟨rfl, rfl⟩ ⟨Nat.le_of_ble_eq_true rfl, Nat.le_of_ble_eq_true rfl⟩ ⟨Nat.zero_le _, Nat.zero_le _⟩ hl.1 (Nat.le_of_ble_eq_true rfl) dX5_buying_11 (fun H locs hP hS => ?_)
  obtain ⟨v3, hv3, hf⟩ := bdP hf
  refine p_castP (ci := 16) (q := (RX19, TX19, 3)) hx hb hX.1 hP hown (hts _ q1189) hv3 hD.2.2.1 rfl dX5_buying_14 ?_
  refine r_astore (lv' := [(4, va_rf (drf ad 8000 v3)), (0, .ref (ad 1090)), (1, .int x1), (2, .int x2), (3, .int x3)]) hx hb dX5_buying_17 hl (by decide) rfl (fun ls hl => ?_)
  refine r_aload hx hb dX5_buying_19 (lv_at hl 0 rfl) ?_
  obtain ⟨v4, hv4, hf⟩ := bdP hf
  refine gp_X5_141_W E hX hD hP rfl hv4 dX5_buying_21 ?_
  refine lv_iload_n hx hb dX5_buying_24 rfl (lv_at hl 2 rfl) ?_
  have J40 : xo_X5_buying_TF_J40 (σ.2.1 1091) = some r_ → ∀ (H : Heap) (locs : List Loc), PIC D clsA G dsc ad σ H → va_S A s.heap H locs → ∀ (ls : Array Slot), lv_has ls 7 [(0, .ref (ad 1090))] → W p l e rmX5_buying_TF s m args below meth c0 H locs 0 0 Q (F0 m 40 ls []) := by
    intro  hf H locs hP hS ls hl
    unfold xo_X5_buying_TF_J40 at hf
    refine lv_aload_n hx hb dX5_buying_40 rfl (lv_at hl 0 rfl) ?_
    refine gx_X5_19_1090 (v := (σ.2.1 1091)) E hX hD hP rfl dX5_buying_41 ?_
    cases hf
    rw [hQ]; exact g_lret hx hb hr hlk hP hS dX5_buying_44
  refine lv_icmp_ne (tgt := 40) hx hb dX5_buying_25 (by decide) (fun c5 => ?_) (fun c5 => ?_)
  · have hf := ifF c5 hf
    exact J40  hf H locs hP hS ls (lv_sub hl [1] rfl)
  · have hf := ifT c5 hf
    refine lv_iload_n hx hb dX5_buying_28 rfl (lv_at hl 4 rfl) ?_
    refine r_aload hx hb dX5_buying_29 (lv_at hl 0 rfl) ?_
    obtain ⟨v6, hv6, hf⟩ := bdP hf
    refine gp_X5_144_W E hX hD hP rfl hv6 dX5_buying_31 ?_
    obtain ⟨v7, u8, hf⟩ := bdP hf
    refine cx_X5_59_X1_digit E hX hD hP hS hA (kxX1_digit l D G hD rfl u8) ⟨rfl, rfl⟩ ⟨Nat.le_of_ble_eq_true rfl, Nat.le_of_ble_eq_true rfl⟩ ⟨Nat.zero_le _, Nat.zero_le _⟩ hl.1 (Nat.le_of_ble_eq_true rfl) dX5_buying_34 (fun H locs hP hS => ?_)
    refine lv_if_eq (tgt := 45) hx hb dX5_buying_37 (by decide) (fun c9 => ?_) (fun c9 => ?_)
    · have hf := ifT c9 hf
      refine lv_aload_n hx hb dX5_buying_45 rfl (lv_at hl 1 rfl) ?_
      refine lv_iconst hx hb dX5_buying_46 ic_1 ?_
      refine r_aload hx hb dX5_buying_47 (lv_at hl 0 rfl) ?_
      obtain ⟨v10, hv10, hf⟩ := bdP hf
      refine gp_X5_144_W E hX hD hP rfl hv10 dX5_buying_49 ?_
      refine lv_ishl hx hb dX5_buying_52 ?_
      refine lv_iload_n hx hb dX5_buying_53 rfl (lv_at hl 2 rfl) ?_
      refine lv_iload_n hx hb dX5_buying_54 rfl (lv_at hl 4 rfl) ?_
      obtain ⟨v11, u12, hf⟩ := bdP hf
      refine cx_X5_114_X5_over_TF E hX hD hP hS hA (kxX5_over_TF l D G hD rfl rfl rfl rfl rfl rfl rfl rfl rfl rfl rfl rfl u12) ⟨rfl, rfl⟩ ⟨Nat.le_of_ble_eq_true rfl, Nat.le_of_ble_eq_true rfl⟩ ⟨Nat.zero_le _, Nat.zero_le _⟩ hl.1 (Nat.le_of_ble_eq_true rfl) dX5_buying_55 (fun H locs hP hS => ?_)
      refine lv_lstore (i := 5) (lv' := [(5, .long v11), (4, va_rf (drf ad 8000 v3)), (0, .ref (ad 1090)), (1, .int x1), (2, .int x2), (3, .int x3)]) hx hb dX5_buying_58 hl (by decide) (by simp [List.filter_cons, rf_cat]) (fun ls hl => ?_)
      refine lv_lload hx hb dX5_buying_60 (lv_at hl 0 rfl) ?_
      refine lv_aload_n hx hb dX5_buying_62 rfl (lv_at hl 2 rfl) ?_
      refine gx_X5_19_1090 (v := (σ.2.1 1091)) E hX hD hP rfl dX5_buying_63 ?_
      refine W.lcmp hx hb dX5_buying_66 ?_
      refine lv_if_ne (tgt := 77) hx hb dX5_buying_67 (by decide) (fun c13 => ?_) (fun c13 => ?_)
      · have hf := ifF (mt (lgc_eq _ _).mpr c13) hf
        refine lv_aload_n hx hb dX5_buying_77 rfl (lv_at hl 2 rfl) ?_
        refine lv_lload hx hb dX5_buying_78 (lv_at hl 0 rfl) ?_
        refine r_aload hx hb dX5_buying_80 (lv_at hl 1 rfl) ?_
        obtain ⟨v14, hv14, hf⟩ := bdP hf
        refine gp_X5_147_W E hX hD hP rfl hv14 dX5_buying_82 ?_
        refine lv_iload_n hx hb dX5_buying_85 rfl (lv_at hl 5 rfl) ?_
        obtain ⟨v15, u16, hf⟩ := bdP hf
        refine cx_X5_110_X8_ahead_TF E hX hD hP hS hA (kxX8_ahead_TF l D G hD u16) ⟨rfl, rfl⟩ ⟨Nat.le_of_ble_eq_true rfl, Nat.le_of_ble_eq_true rfl⟩ ⟨Nat.zero_le _, Nat.zero_le _⟩ hl.1 (Nat.le_of_ble_eq_true rfl) dX5_buying_86 (fun H locs hP hS => ?_)
        cases hf
        rw [hQ]; exact g_lret hx hb hr hlk hP hS dX5_buying_89
      · have hf := ifT ((lgc_eq _ _).mp c13) hf
        refine lv_aload_n hx hb dX5_buying_70 rfl (lv_at hl 2 rfl) ?_
        refine gx_X5_19_1090 (v := (σ.2.1 1091)) E hX hD hP rfl dX5_buying_71 ?_
        refine lv_goto (tgt := 89) hx hb dX5_buying_74 (by decide) ?_
        cases hf
        rw [hQ]; exact g_lret hx hb hr hlk hP hS dX5_buying_89
    · have hf := ifF c9 hf
      exact J40  hf H locs hP hS ls (lv_sub hl [1] rfl)
theorem kxX5_buying_TF (l : Launch) (D : va_G) (G : Nat → ClassId) {dsc : Nat → Option Dsc} {ad : Nat → Nat} {σ : Sto} {nr nw nu : Nat} (hD : XD dsc nr nw nu) {x1 : Int32} {x2 : Int32} {x3 : Int32} {r_ : Int64} {z_TF_by : Int32} (e_zI1092 : σ.1 1092 = z_TF_by) {z_TF_times : Int32} (e_zI1094 : σ.1 1094 = z_TF_times) {z_TF_of : Int32} (e_zI1095 : σ.1 1095 = z_TF_of) {z_L_to : Int32} (e_zI2013 : σ.1 2013 = z_L_to) {z_Ld_size : Int32} (e_zI2027 : σ.1 2027 = z_Ld_size) {z_Lw_size : Int32} (e_zI2032 : σ.1 2032 = z_Lw_size) {z_TF_none : Int64} (e_zL1091 : σ.2.1 1091 = z_TF_none) {a_X_knowing : Nat → Int32} (e_aI1108 : σ.2.2.1 1108 = a_X_knowing) {a_UNIT : Nat → Int32} (e_aI1170 : σ.2.2.1 1170 = a_UNIT) {a_Lw_data : Nat → Int32} (e_aI2037 : σ.2.2.1 2037 = a_Lw_data) {a_L_seen : Nat → Int32} (e_aI2043 : σ.2.2.1 2043 = a_L_seen) {a_W_world : Nat → Int64} (e_aL1140 : σ.2.2.2.1 1140 = a_W_world) {a_W_likely : Nat → Int64} (e_aL1141 : σ.2.2.2.1 1141 = a_W_likely) {a_TF_value : Nat → Int64} (e_aL1153 : σ.2.2.2.1 1153 = a_TF_value) {n_w : Nat} (e_nN1 : nw = n_w) {p_word_place : Nat → Int32} (e_pW0 : (fun k => σ.1 (8000 + 16 * k + 0)) = p_word_place) {p_word_road : Nat → Int32} (e_pW1 : (fun k => σ.1 (8000 + 16 * k + 1)) = p_word_road) {p_word_hours : Nat → Int32} (e_pW2 : (fun k => σ.1 (8000 + 16 * k + 2)) = p_word_hours) (hf : xo_X5_buying_TF z_TF_by z_TF_times z_TF_of z_L_to z_Ld_size z_Lw_size z_TF_none a_X_knowing a_UNIT a_Lw_data a_L_seen a_W_world a_W_likely a_TF_value n_w p_word_place p_word_road p_word_hours x1 x2 x3 = some r_) : CtG l D G dsc ad yX5_buying (ws_ yX5_buying cX5_buying 7 (Option.some Jvm.ClassFile.FieldType.long)) rmX5_buying_TF [.ref (ad 1090), .int x1, .int x2, .int x3] σ (some (.long r_)) σ := by
  subst e_zI1092
  subst e_zI1094
  subst e_zI1095
  subst e_zI2013
  subst e_zI2027
  subst e_zI2032
  subst e_zL1091
  subst e_aI1108
  subst e_aI1170
  subst e_aI2037
  subst e_aI2043
  subst e_aL1140
  subst e_aL1141
  subst e_aL1153
  subst e_nN1
  subst e_pW0
  subst e_pW1
  subst e_pW2
  exact p_ctG (by decide +kernel) (Nat.le_of_ble_eq_true rfl) (fun p e s m below meth c0 ls A E hP hX hA hS hl => wkX5_buying_TF E hX hD hA hf rfl hP hS hl)
theorem cx_X5_84_X5_going_TF {rm : Room} {σ1 : Sto} {x1 : Int32} {x2 : Int32} {x3 : Int32} {r : Int64} (E : EN p s m args meth c0 RX5 cc nL ret) (hX : KX D G ad A s s.heap) (hD : XD dsc nr nw nu) (hP : PIC D clsA G dsc ad σ H) (hS : va_S A s.heap H locs) (hA : ∀ q, PA dsc ad s.heap.size q → A q) (hM : CtG l D G dsc ad yX5_going (ws_ yX5_going cX5_going 7 (Option.some Jvm.ClassFile.FieldType.long)) rm [.ref (ad 1090), .int x1, .int x2, .int x3] σ (some (.long r)) σ1) (hz : rm.cells = 0 ∧ rm.slots = 0) (hR : rm.frames + 1 ≤ R.frames ∧ 8 + (7 + 11) + rm.locals ≤ R.locals) (hcs : cells ≤ R.cells ∧ slots ≤ R.slots) (hsz : ls.size = nL) (hW : (rest.map fun v => v.category).sum ≤ 8) (hdg : decode cc pc = .ok (.invokevirtual 84, 3)) (kk : ∀ (H1 : Heap) (locs1 : List Loc), PIC D clsA G dsc ad σ1 H1 → va_S A s.heap H1 locs1 → W p l e R s m args below meth c0 H1 locs1 cells slots Q (F0 m (pc + 3) ls (.long r :: rest))) : W p l e R s m args below meth c0 H locs cells slots Q (F0 m pc ls (.int x3 :: .int x2 :: .int x1 :: .ref (ad 1090) :: rest)) :=
  p_gU (As := [.int x1, .int x2, .int x3]) (rest := rest) E.1 hX hP hS hA hM (cw_any (owner := "ShutPasses$Table") (x := ⟨"ShutPasses$Table", "going", "(III)J"⟩) (y := yX5_going) (C := "ShutPasses$Spare") (index := 84) (own := RX5) 3 E.1.2.2.2.2 (lw_meth q1103) rfl hz.1 hz.2 (E.1.2.2.2.2 _ q1097) (E.1.2.2.2.2 _ q1099) (va_Decl.of (E.1.2.2.2.2 _ q1098) (E.1.2.2.2.2 _ q1103)) (E.1.2.2.2.2 _ q1102) (E.1.2.2.2.2 _ q1098) (E.1.2.2.2.2 _ q131) (by decide +kernel) hR) (hD.1 _ _ dX_1090) rfl rfl rfl hsz rfl hW hdg hcs kk
theorem cx_X5_95_X5_buying_TF {rm : Room} {σ1 : Sto} {x1 : Int32} {x2 : Int32} {x3 : Int32} {r : Int64} (E : EN p s m args meth c0 RX5 cc nL ret) (hX : KX D G ad A s s.heap) (hD : XD dsc nr nw nu) (hP : PIC D clsA G dsc ad σ H) (hS : va_S A s.heap H locs) (hA : ∀ q, PA dsc ad s.heap.size q → A q) (hM : CtG l D G dsc ad yX5_buying (ws_ yX5_buying cX5_buying 7 (Option.some Jvm.ClassFile.FieldType.long)) rm [.ref (ad 1090), .int x1, .int x2, .int x3] σ (some (.long r)) σ1) (hz : rm.cells = 0 ∧ rm.slots = 0) (hR : rm.frames + 1 ≤ R.frames ∧ 8 + (7 + 11) + rm.locals ≤ R.locals) (hcs : cells ≤ R.cells ∧ slots ≤ R.slots) (hsz : ls.size = nL) (hW : (rest.map fun v => v.category).sum ≤ 8) (hdg : decode cc pc = .ok (.invokevirtual 95, 3)) (kk : ∀ (H1 : Heap) (locs1 : List Loc), PIC D clsA G dsc ad σ1 H1 → va_S A s.heap H1 locs1 → W p l e R s m args below meth c0 H1 locs1 cells slots Q (F0 m (pc + 3) ls (.long r :: rest))) : W p l e R s m args below meth c0 H locs cells slots Q (F0 m pc ls (.int x3 :: .int x2 :: .int x1 :: .ref (ad 1090) :: rest)) :=
  p_gU (As := [.int x1, .int x2, .int x3]) (rest := rest) E.1 hX hP hS hA hM (cw_any (owner := "ShutPasses$Table") (x := ⟨"ShutPasses$Table", "buying", "(III)J"⟩) (y := yX5_buying) (C := "ShutPasses$Spare") (index := 95) (own := RX5) 3 E.1.2.2.2.2 (lw_meth q1187) rfl hz.1 hz.2 (E.1.2.2.2.2 _ q1181) (E.1.2.2.2.2 _ q1183) (va_Decl.of (E.1.2.2.2.2 _ q1182) (E.1.2.2.2.2 _ q1187)) (E.1.2.2.2.2 _ q1186) (E.1.2.2.2.2 _ q1182) (E.1.2.2.2.2 _ q131) (by decide +kernel) hR) (hD.1 _ _ dX_1090) rfl rfl rfl hsz rfl hW hdg hcs kk
/-! X5_next_TF (II)I -/
abbrev rmX5_next_TF : Room := { frames := 46, cells := 0, slots := 0, locals := 1264 }
set_option maxHeartbeats 4000000 in
theorem wkX5_next_TF {x1 : Int32} {x2 : Int32} {r_ : Int32} (E : EN p s m args meth c0 RX5 cX5_next 4 (Option.some Jvm.ClassFile.FieldType.int)) (hX : KX D G ad A s s.heap) (hD : XD dsc nr nw nu) (hA : ∀ q, PA dsc ad s.heap.size q → A q) (hf : xo_X5_next_TF (σ.1 1092) (σ.1 1094) (σ.1 1095) (σ.1 2008) (σ.1 2013) (σ.1 2027) (σ.1 2032) (σ.2.1 1091) (σ.2.2.1 1108) (σ.2.2.1 1170) (σ.2.2.1 2037) (σ.2.2.1 2043) (σ.2.2.2.1 1140) (σ.2.2.2.1 1141) (σ.2.2.2.1 1153) nr nw (fun k => σ.1 (6000 + 16 * k + 2)) (fun k => σ.1 (6000 + 16 * k + 5)) (fun k => σ.1 (6000 + 16 * k + 6)) (fun k => σ.1 (8000 + 16 * k + 0)) (fun k => σ.1 (8000 + 16 * k + 1)) (fun k => σ.1 (8000 + 16 * k + 2)) (fun k => σ.2.2.1 (4000 + 16 * k)) x1 x2 = some r_) (hQ : Q = MQ below (va_G1 (some (.int r_)) (fun t => PIC D clsA G dsc ad σ t.heap) A) args s 0 0 A) (hP : PIC D clsA G dsc ad σ H) (hS : va_S A s.heap H locs) (hl : lv_has ls 4 [(0, .ref (ad 1090)), (1, .int x1), (2, .int x2)]) : W p l e rmX5_next_TF s m args below meth c0 H locs 0 0 Q (F0 m 0 ls []) := by
  obtain ⟨⟨hx, hb, hml, hown, hts⟩, hr, hlk⟩ := id E
  unfold xo_X5_next_TF at hf
  refine lv_iload_n hx hb dX5_next_0 rfl (lv_at hl 1 rfl) ?_
  refine lv_aload_n hx hb dX5_next_1 rfl (lv_at hl 0 rfl) ?_
  refine gx_X5_3_1090 E hX hD hP dX5_next_2 ?_
  refine gx_X5_27_1000 E hX hD hP dX5_next_5 ?_
  refine gx_X5_67_2000 (v := (σ.1 2013)) E hX hD hP rfl dX5_next_8 ?_
  refine lv_icmp_eq (tgt := 28) hx hb dX5_next_11 (by decide) (fun c1 => ?_) (fun c1 => ?_)
  · have hf := ifT c1 hf
    refine lv_bipush hx hb dX5_next_28 bp_m2 ?_
    cases hf
    rw [hQ]; exact g_iret hx hb hr hlk hP hS dX5_next_30
  · have hf := ifF c1 hf
    refine lv_aload_n hx hb dX5_next_14 rfl (lv_at hl 0 rfl) ?_
    refine lv_iload_n hx hb dX5_next_15 rfl (lv_at hl 1 rfl) ?_
    refine lv_iload_n hx hb dX5_next_16 rfl (lv_at hl 2 rfl) ?_
    obtain ⟨v2, u3, hf⟩ := bdP hf
    refine cx_X5_81_X5_value_TF E hX hD hP hS hA (kxX5_value_TF l D G hD rfl u3) ⟨rfl, rfl⟩ ⟨Nat.le_of_ble_eq_true rfl, Nat.le_of_ble_eq_true rfl⟩ ⟨Nat.zero_le _, Nat.zero_le _⟩ hl.1 (Nat.le_of_ble_eq_true rfl) dX5_next_17 (fun H locs hP hS => ?_)
    refine lv_aload_n hx hb dX5_next_20 rfl (lv_at hl 0 rfl) ?_
    refine gx_X5_19_1090 (v := (σ.2.1 1091)) E hX hD hP rfl dX5_next_21 ?_
    refine W.lcmp hx hb dX5_next_24 ?_
    refine lv_if_ne (tgt := 31) hx hb dX5_next_25 (by decide) (fun c4 => ?_) (fun c4 => ?_)
    · have hf := ifF (mt (lgc_eq _ _).mpr c4) hf
      refine lv_iconst hx hb dX5_next_31 ic_0 ?_
      refine lv_istore_n (lv' := [(3, .int 0), (0, .ref (ad 1090)), (1, .int x1), (2, .int x2)]) hx hb dX5_next_32 rfl hl (by decide) rfl (fun ls hl => ?_)
      have LP33 : ∀ (st33 : Int32) (ex33 : (Int32) ⊕ (Unit)), loop (xo_X5_next_TF_L33 (σ.1 1092) (σ.1 1094) (σ.1 1095) (σ.1 2008) (σ.1 2013) (σ.1 2027) (σ.2.1 1091) (σ.2.2.1 1108) (σ.2.2.1 1170) (σ.2.2.1 2043) (σ.2.2.2.1 1140) (σ.2.2.2.1 1141) (σ.2.2.2.1 1153) nr (fun k => σ.1 (6000 + 16 * k + 2)) (fun k => σ.1 (6000 + 16 * k + 5)) (fun k => σ.1 (6000 + 16 * k + 6)) (fun k => σ.2.2.1 (4000 + 16 * k)) x1 x2) st33 = some ex33 → ∀ (H : Heap) (locs : List Loc), PIC D clsA G dsc ad σ H → va_S A s.heap H locs → ∀ (ls : Array Slot), lv_has ls 4 [(0, .ref (ad 1090)), (1, .int x1), (2, .int x2), (3, .int st33)] → (∀ (y13 : Int32), ex33 = (.inl y13) → ∀ (H : Heap) (locs : List Loc), PIC D clsA G dsc ad σ H → va_S A s.heap H locs → ∀ (ls : Array Slot), lv_has ls 4 [(3, .int y13)] → W p l e rmX5_next_TF s m args below meth c0 H locs 0 0 Q (F0 m 64 ls [])) → (ex33 = (.inr ()) → ∀ (H : Heap) (locs : List Loc), PIC D clsA G dsc ad σ H → va_S A s.heap H locs → ∀ (ls : Array Slot), lv_has ls 4 [(0, .ref (ad 1090)), (1, .int x1), (2, .int x2)] → W p l e rmX5_next_TF s m args below meth c0 H locs 0 0 Q (F0 m 72 ls [])) → W p l e rmX5_next_TF s m args below meth c0 H locs 0 0 Q (F0 m 33 ls []) := by
        refine loop_P (fun st33 ex33 o33 hf ih33 hx33 => ?_)
        obtain ⟨y5, rfl⟩ : ∃ z, z = st33 := ⟨_, rfl⟩
        intro H locs (hP : PIC D clsA G dsc ad σ H) hS ls (hl : lv_has ls 4 [(0, .ref (ad 1090)), (1, .int x1), (2, .int x2), (3, .int y5)]) KE33_0 KE33_1
        dsimp only [xo_X5_next_TF_L33] at hf
        refine lv_iload_n hx hb dX5_next_33 rfl (lv_at hl 3 rfl) ?_
        refine lv_aload_n hx hb dX5_next_34 rfl (lv_at hl 0 rfl) ?_
        refine gx_X5_3_1090 E hX hD hP dX5_next_35 ?_
        refine gx_X5_27_1000 E hX hD hP dX5_next_38 ?_
        refine gx_X5_63_2000 (v := (σ.1 2008)) E hX hD hP rfl dX5_next_41 ?_
        refine lv_icmp_ge (tgt := 72) hx hb dX5_next_44 (by decide) (fun c6 => ?_) (fun c6 => ?_)
        · have hf := ifT c6 hf
          exact KE33_1  (hx33 _ (Option.some.inj hf).symm).symm H locs hP hS ls (lv_sub hl [0, 1, 2] rfl)
        · have hf := ifF c6 hf
          refine lv_aload_n hx hb dX5_next_47 rfl (lv_at hl 0 rfl) ?_
          refine lv_iload_n hx hb dX5_next_48 rfl (lv_at hl 1 rfl) ?_
          refine lv_iload_n hx hb dX5_next_49 rfl (lv_at hl 3 rfl) ?_
          refine lv_iload_n hx hb dX5_next_50 rfl (lv_at hl 2 rfl) ?_
          obtain ⟨v7, u8, hf⟩ := bdP hf
          refine cx_X5_84_X5_going_TF E hX hD hP hS hA (kxX5_going_TF l D G hD rfl rfl rfl rfl rfl rfl rfl rfl rfl rfl rfl rfl rfl rfl rfl rfl rfl u8) ⟨rfl, rfl⟩ ⟨Nat.le_of_ble_eq_true rfl, Nat.le_of_ble_eq_true rfl⟩ ⟨Nat.zero_le _, Nat.zero_le _⟩ hl.1 (Nat.le_of_ble_eq_true rfl) dX5_next_51 (fun H locs hP hS => ?_)
          refine lv_aload_n hx hb dX5_next_54 rfl (lv_at hl 0 rfl) ?_
          refine lv_iload_n hx hb dX5_next_55 rfl (lv_at hl 1 rfl) ?_
          refine lv_iload_n hx hb dX5_next_56 rfl (lv_at hl 2 rfl) ?_
          obtain ⟨v9, u10, hf⟩ := bdP hf
          refine cx_X5_81_X5_value_TF E hX hD hP hS hA (kxX5_value_TF l D G hD rfl u10) ⟨rfl, rfl⟩ ⟨Nat.le_of_ble_eq_true rfl, Nat.le_of_ble_eq_true rfl⟩ ⟨Nat.zero_le _, Nat.zero_le _⟩ hl.1 (Nat.le_of_ble_eq_true rfl) dX5_next_57 (fun H locs hP hS => ?_)
          refine W.lcmp hx hb dX5_next_60 ?_
          refine lv_if_ne (tgt := 66) hx hb dX5_next_61 (by decide) (fun c11 => ?_) (fun c11 => ?_)
          · have hf := ifF (mt (lgc_eq _ _).mpr c11) hf
            obtain ⟨v12, hv12, hf⟩ := bdP hf
            refine lv_iinc (v := v12) (lv' := [(3, .int v12), (0, .ref (ad 1090)), (1, .int x1), (2, .int x2)]) hx hb dX5_next_66 hl (k := 3) rfl (Option.some.inj hv12) (by decide) rfl (fun ls hl => ?_)
            refine lv_goto (tgt := 33) hx hb dX5_next_69 (by decide) ?_
            exact ih33 _ (Option.some.inj hf).symm H locs hP hS ls (lv_sub hl [1, 2, 3, 0] rfl) KE33_0 KE33_1
          · have hf := ifT ((lgc_eq _ _).mp c11) hf
            exact KE33_0 _ (hx33 _ (Option.some.inj hf).symm).symm H locs hP hS ls (lv_sub hl [3] rfl)
      obtain ⟨ex33, hlp33, hf⟩ := bdP hf
      refine LP33 0 ex33 hlp33 H locs hP hS ls (lv_sub hl [1, 2, 3, 0] rfl) ?_ ?_
      · intro y13 hex33 H locs hP hS ls hl
        subst ex33
        dsimp only [sE_l, sE_r] at hf
        refine lv_iload_n hx hb dX5_next_64 rfl (lv_at hl 0 rfl) ?_
        cases hf
        rw [hQ]; exact g_iret hx hb hr hlk hP hS dX5_next_65
      · intro  hex33 H locs hP hS ls hl
        subst ex33
        dsimp only [sE_l, sE_r] at hf
        refine lv_iconst hx hb dX5_next_72 ic_0 ?_
        refine lv_istore_n (lv' := [(3, .int 0), (0, .ref (ad 1090)), (1, .int x1), (2, .int x2)]) hx hb dX5_next_73 rfl hl (by decide) rfl (fun ls hl => ?_)
        have LP74 : ∀ (st74 : Int32) (ex74 : (Int32) ⊕ (Unit)), loop (xo_X5_next_TF_L74 (σ.1 1092) (σ.1 1094) (σ.1 1095) (σ.1 2013) (σ.1 2027) (σ.1 2032) (σ.2.1 1091) (σ.2.2.1 1108) (σ.2.2.1 1170) (σ.2.2.1 2037) (σ.2.2.1 2043) (σ.2.2.2.1 1140) (σ.2.2.2.1 1141) (σ.2.2.2.1 1153) nw (fun k => σ.1 (8000 + 16 * k + 0)) (fun k => σ.1 (8000 + 16 * k + 1)) (fun k => σ.1 (8000 + 16 * k + 2)) x1 x2) st74 = some ex74 → ∀ (H : Heap) (locs : List Loc), PIC D clsA G dsc ad σ H → va_S A s.heap H locs → ∀ (ls : Array Slot), lv_has ls 4 [(0, .ref (ad 1090)), (1, .int x1), (2, .int x2), (3, .int st74)] → (∀ (y24 : Int32), ex74 = (.inl y24) → ∀ (H : Heap) (locs : List Loc), PIC D clsA G dsc ad σ H → va_S A s.heap H locs → ∀ (ls : Array Slot), lv_has ls 4 [(3, .int y24)] → W p l e rmX5_next_TF s m args below meth c0 H locs 0 0 Q (F0 m 108 ls [])) → (ex74 = (.inr ()) → ∀ (H : Heap) (locs : List Loc), PIC D clsA G dsc ad σ H → va_S A s.heap H locs → ∀ (ls : Array Slot), lv_has ls 4 [] → W p l e rmX5_next_TF s m args below meth c0 H locs 0 0 Q (F0 m 119 ls [])) → W p l e rmX5_next_TF s m args below meth c0 H locs 0 0 Q (F0 m 74 ls []) := by
          refine loop_P (fun st74 ex74 o74 hf ih74 hx74 => ?_)
          obtain ⟨y14, rfl⟩ : ∃ z, z = st74 := ⟨_, rfl⟩
          intro H locs (hP : PIC D clsA G dsc ad σ H) hS ls (hl : lv_has ls 4 [(0, .ref (ad 1090)), (1, .int x1), (2, .int x2), (3, .int y14)]) KE74_0 KE74_1
          dsimp only [xo_X5_next_TF_L74] at hf
          refine lv_iload_n hx hb dX5_next_74 rfl (lv_at hl 3 rfl) ?_
          refine lv_aload_n hx hb dX5_next_75 rfl (lv_at hl 0 rfl) ?_
          refine gx_X5_3_1090 E hX hD hP dX5_next_76 ?_
          refine gx_X5_27_1000 E hX hD hP dX5_next_79 ?_
          refine gx_X5_92_2000 E hX hD hP dX5_next_82 ?_
          obtain ⟨v15, u16, hf⟩ := bdP hf
          refine cx_X5_37_J2_size_Lw E hX hD hP hS hA (kxJ2_size_Lw l D G hD rfl u16) ⟨rfl, rfl⟩ ⟨Nat.le_of_ble_eq_true rfl, Nat.le_of_ble_eq_true rfl⟩ ⟨Nat.zero_le _, Nat.zero_le _⟩ hl.1 (Nat.le_of_ble_eq_true rfl) dX5_next_85 (fun H locs hP hS => ?_)
          refine lv_icmp_ge (tgt := 119) hx hb dX5_next_88 (by decide) (fun c17 => ?_) (fun c17 => ?_)
          · have hf := ifT c17 hf
            exact KE74_1  (hx74 _ (Option.some.inj hf).symm).symm H locs hP hS ls (lv_sub hl [] rfl)
          · have hf := ifF c17 hf
            refine lv_aload_n hx hb dX5_next_91 rfl (lv_at hl 0 rfl) ?_
            refine lv_iload_n hx hb dX5_next_92 rfl (lv_at hl 1 rfl) ?_
            refine lv_iload_n hx hb dX5_next_93 rfl (lv_at hl 3 rfl) ?_
            refine lv_iload_n hx hb dX5_next_94 rfl (lv_at hl 2 rfl) ?_
            obtain ⟨v18, u19, hf⟩ := bdP hf
            refine cx_X5_95_X5_buying_TF E hX hD hP hS hA (kxX5_buying_TF l D G hD rfl rfl rfl rfl rfl rfl rfl rfl rfl rfl rfl rfl rfl rfl rfl rfl rfl rfl u19) ⟨rfl, rfl⟩ ⟨Nat.le_of_ble_eq_true rfl, Nat.le_of_ble_eq_true rfl⟩ ⟨Nat.zero_le _, Nat.zero_le _⟩ hl.1 (Nat.le_of_ble_eq_true rfl) dX5_next_95 (fun H locs hP hS => ?_)
            refine lv_aload_n hx hb dX5_next_98 rfl (lv_at hl 0 rfl) ?_
            refine lv_iload_n hx hb dX5_next_99 rfl (lv_at hl 1 rfl) ?_
            refine lv_iload_n hx hb dX5_next_100 rfl (lv_at hl 2 rfl) ?_
            obtain ⟨v20, u21, hf⟩ := bdP hf
            refine cx_X5_81_X5_value_TF E hX hD hP hS hA (kxX5_value_TF l D G hD rfl u21) ⟨rfl, rfl⟩ ⟨Nat.le_of_ble_eq_true rfl, Nat.le_of_ble_eq_true rfl⟩ ⟨Nat.zero_le _, Nat.zero_le _⟩ hl.1 (Nat.le_of_ble_eq_true rfl) dX5_next_101 (fun H locs hP hS => ?_)
            refine W.lcmp hx hb dX5_next_104 ?_
            refine lv_if_ne (tgt := 113) hx hb dX5_next_105 (by decide) (fun c22 => ?_) (fun c22 => ?_)
            · have hf := ifF (mt (lgc_eq _ _).mpr c22) hf
              obtain ⟨v23, hv23, hf⟩ := bdP hf
              refine lv_iinc (v := v23) (lv' := [(3, .int v23), (0, .ref (ad 1090)), (1, .int x1), (2, .int x2)]) hx hb dX5_next_113 hl (k := 3) rfl (Option.some.inj hv23) (by decide) rfl (fun ls hl => ?_)
              refine lv_goto (tgt := 74) hx hb dX5_next_116 (by decide) ?_
              exact ih74 _ (Option.some.inj hf).symm H locs hP hS ls (lv_sub hl [1, 2, 3, 0] rfl) KE74_0 KE74_1
            · have hf := ifT ((lgc_eq _ _).mp c22) hf
              exact KE74_0 _ (hx74 _ (Option.some.inj hf).symm).symm H locs hP hS ls (lv_sub hl [3] rfl)
        obtain ⟨ex74, hlp74, hf⟩ := bdP hf
        refine LP74 0 ex74 hlp74 H locs hP hS ls (lv_sub hl [1, 2, 3, 0] rfl) ?_ ?_
        · intro y24 hex74 H locs hP hS ls hl
          subst ex74
          dsimp only [sE_l, sE_r] at hf
          refine lv_bipush hx hb dX5_next_108 bp_100 ?_
          refine lv_iload_n hx hb dX5_next_110 rfl (lv_at hl 0 rfl) ?_
          refine lv_iadd hx hb dX5_next_111 ?_
          cases hf
          rw [hQ]; exact g_iret hx hb hr hlk hP hS dX5_next_112
        · intro  hex74 H locs hP hS ls hl
          subst ex74
          dsimp only [sE_l, sE_r] at hf
          refine lv_bipush hx hb dX5_next_119 bp_m2 ?_
          cases hf
          rw [hQ]; exact g_iret hx hb hr hlk hP hS dX5_next_121
    · have hf := ifT ((lgc_eq _ _).mp c4) hf
      refine lv_bipush hx hb dX5_next_28 bp_m2 ?_
      cases hf
      rw [hQ]; exact g_iret hx hb hr hlk hP hS dX5_next_30
theorem kxX5_next_TF (l : Launch) (D : va_G) (G : Nat → ClassId) {dsc : Nat → Option Dsc} {ad : Nat → Nat} {σ : Sto} {nr nw nu : Nat} (hD : XD dsc nr nw nu) {x1 : Int32} {x2 : Int32} {r_ : Int32} {z_TF_by : Int32} (e_zI1092 : σ.1 1092 = z_TF_by) {z_TF_times : Int32} (e_zI1094 : σ.1 1094 = z_TF_times) {z_TF_of : Int32} (e_zI1095 : σ.1 1095 = z_TF_of) {z_L_places : Int32} (e_zI2008 : σ.1 2008 = z_L_places) {z_L_to : Int32} (e_zI2013 : σ.1 2013 = z_L_to) {z_Ld_size : Int32} (e_zI2027 : σ.1 2027 = z_Ld_size) {z_Lw_size : Int32} (e_zI2032 : σ.1 2032 = z_Lw_size) {z_TF_none : Int64} (e_zL1091 : σ.2.1 1091 = z_TF_none) {a_X_knowing : Nat → Int32} (e_aI1108 : σ.2.2.1 1108 = a_X_knowing) {a_UNIT : Nat → Int32} (e_aI1170 : σ.2.2.1 1170 = a_UNIT) {a_Lw_data : Nat → Int32} (e_aI2037 : σ.2.2.1 2037 = a_Lw_data) {a_L_seen : Nat → Int32} (e_aI2043 : σ.2.2.1 2043 = a_L_seen) {a_W_world : Nat → Int64} (e_aL1140 : σ.2.2.2.1 1140 = a_W_world) {a_W_likely : Nat → Int64} (e_aL1141 : σ.2.2.2.1 1141 = a_W_likely) {a_TF_value : Nat → Int64} (e_aL1153 : σ.2.2.2.1 1153 = a_TF_value) {n_r : Nat} (e_nN0 : nr = n_r) {n_w : Nat} (e_nN1 : nw = n_w) {p_road_hours : Nat → Int32} (e_pR2 : (fun k => σ.1 (6000 + 16 * k + 2)) = p_road_hours) {p_road_wait : Nat → Int32} (e_pR5 : (fun k => σ.1 (6000 + 16 * k + 5)) = p_road_wait) {p_road_number : Nat → Int32} (e_pR6 : (fun k => σ.1 (6000 + 16 * k + 6)) = p_road_number) {p_word_place : Nat → Int32} (e_pW0 : (fun k => σ.1 (8000 + 16 * k + 0)) = p_word_place) {p_word_road : Nat → Int32} (e_pW1 : (fun k => σ.1 (8000 + 16 * k + 1)) = p_word_road) {p_word_hours : Nat → Int32} (e_pW2 : (fun k => σ.1 (8000 + 16 * k + 2)) = p_word_hours) {g_grid : Nat → Nat → Int32} (e_gG0 : (fun k => σ.2.2.1 (4000 + 16 * k)) = g_grid) (hf : xo_X5_next_TF z_TF_by z_TF_times z_TF_of z_L_places z_L_to z_Ld_size z_Lw_size z_TF_none a_X_knowing a_UNIT a_Lw_data a_L_seen a_W_world a_W_likely a_TF_value n_r n_w p_road_hours p_road_wait p_road_number p_word_place p_word_road p_word_hours g_grid x1 x2 = some r_) : CtG l D G dsc ad yX5_next (ws_ yX5_next cX5_next 4 (Option.some Jvm.ClassFile.FieldType.int)) rmX5_next_TF [.ref (ad 1090), .int x1, .int x2] σ (some (.int r_)) σ := by
  subst e_zI1092
  subst e_zI1094
  subst e_zI1095
  subst e_zI2008
  subst e_zI2013
  subst e_zI2027
  subst e_zI2032
  subst e_zL1091
  subst e_aI1108
  subst e_aI1170
  subst e_aI2037
  subst e_aI2043
  subst e_aL1140
  subst e_aL1141
  subst e_aL1153
  subst e_nN0
  subst e_nN1
  subst e_pR2
  subst e_pR5
  subst e_pR6
  subst e_pW0
  subst e_pW1
  subst e_pW2
  subst e_gG0
  exact p_ctG (by decide +kernel) (Nat.le_of_ble_eq_true rfl) (fun p e s m below meth c0 ls A E hP hX hA hS hl => wkX5_next_TF E hX hD hA hf rfl hP hS hl)
theorem gx_X14_13_1432 (E : EN p s m args meth c0 RX14 cc nL ret) (hX : KX D G ad A s s.heap) (hD : XD dsc nr nw nu) (hP : PIC D clsA G dsc ad σ H) (hdg : decode cc pc = .ok (.getfield 13, 3)) (kk : W p l e R s m args below meth c0 H locs cells slots Q (F0 m (pc + 3) ls (.ref (ad 1090) :: rest))) : W p l e R s m args below meth c0 H locs cells slots Q (F0 m pc ls (.ref (ad 1432) :: rest)) :=
  p_get E.1.1 E.1.2.1 E.1.2.2.2.2 in_X14 E.1.2.2.2.1 hX.1 hP (hD.1 _ _ dX_1432) rfl 1 (by decide) (E.1.2.2.2.2 _ q474) (fun _ h => h) rfl rfl hdg kk
theorem cx_X14_17_X5_next_TF {rm : Room} {σ1 : Sto} {x1 : Int32} {x2 : Int32} {r : Int32} (E : EN p s m args meth c0 RX14 cc nL ret) (hX : KX D G ad A s s.heap) (hD : XD dsc nr nw nu) (hP : PIC D clsA G dsc ad σ H) (hS : va_S A s.heap H locs) (hA : ∀ q, PA dsc ad s.heap.size q → A q) (hM : CtG l D G dsc ad yX5_next (ws_ yX5_next cX5_next 4 (Option.some Jvm.ClassFile.FieldType.int)) rm [.ref (ad 1090), .int x1, .int x2] σ (some (.int r)) σ1) (hz : rm.cells = 0 ∧ rm.slots = 0) (hR : rm.frames + 1 ≤ R.frames ∧ 8 + (4 + 11) + rm.locals ≤ R.locals) (hcs : cells ≤ R.cells ∧ slots ≤ R.slots) (hsz : ls.size = nL) (hW : (rest.map fun v => v.category).sum ≤ 8) (hdg : decode cc pc = .ok (.invokevirtual 17, 3)) (kk : ∀ (H1 : Heap) (locs1 : List Loc), PIC D clsA G dsc ad σ1 H1 → va_S A s.heap H1 locs1 → W p l e R s m args below meth c0 H1 locs1 cells slots Q (F0 m (pc + 3) ls (.int r :: rest))) : W p l e R s m args below meth c0 H locs cells slots Q (F0 m pc ls (.int x2 :: .int x1 :: .ref (ad 1090) :: rest)) :=
  p_gU (As := [.int x1, .int x2]) (rest := rest) E.1 hX hP hS hA hM (cw_any (owner := "ShutPasses$Table") (x := ⟨"ShutPasses$Table", "next", "(II)I"⟩) (y := yX5_next) (C := "ShutPasses$Spare") (index := 17) (own := RX14) 2 E.1.2.2.2.2 (lw_meth q1309) rfl hz.1 hz.2 (E.1.2.2.2.2 _ q1303) (E.1.2.2.2.2 _ q1305) (va_Decl.of (E.1.2.2.2.2 _ q1304) (E.1.2.2.2.2 _ q1309)) (E.1.2.2.2.2 _ q1308) (E.1.2.2.2.2 _ q1304) (E.1.2.2.2.2 _ q131) (by decide +kernel) hR) (hD.1 _ _ dX_1090) rfl rfl rfl hsz rfl hW hdg hcs kk
/-! X14_next_p2 (II)I -/
abbrev rmX14_next_p2 : Room := { frames := 47, cells := 0, slots := 0, locals := 1287 }
set_option maxHeartbeats 4000000 in
theorem wkX14_next_p2 {x1 : Int32} {x2 : Int32} {r_ : Int32} (E : EN p s m args meth c0 RX14 cX14_next 3 (Option.some Jvm.ClassFile.FieldType.int)) (hX : KX D G ad A s s.heap) (hD : XD dsc nr nw nu) (hA : ∀ q, PA dsc ad s.heap.size q → A q) (hf : xo_X14_next_p2 (σ.1 1092) (σ.1 1094) (σ.1 1095) (σ.1 2008) (σ.1 2013) (σ.1 2027) (σ.1 2032) (σ.2.1 1091) (σ.2.2.1 1108) (σ.2.2.1 1170) (σ.2.2.1 2037) (σ.2.2.1 2043) (σ.2.2.2.1 1140) (σ.2.2.2.1 1141) (σ.2.2.2.1 1153) nr nw (fun k => σ.1 (6000 + 16 * k + 2)) (fun k => σ.1 (6000 + 16 * k + 5)) (fun k => σ.1 (6000 + 16 * k + 6)) (fun k => σ.1 (8000 + 16 * k + 0)) (fun k => σ.1 (8000 + 16 * k + 1)) (fun k => σ.1 (8000 + 16 * k + 2)) (fun k => σ.2.2.1 (4000 + 16 * k)) x1 x2 = some r_) (hQ : Q = MQ below (va_G1 (some (.int r_)) (fun t => PIC D clsA G dsc ad σ t.heap) A) args s 0 0 A) (hP : PIC D clsA G dsc ad σ H) (hS : va_S A s.heap H locs) (hl : lv_has ls 3 [(0, .ref (ad 1432)), (1, .int x1), (2, .int x2)]) : W p l e rmX14_next_p2 s m args below meth c0 H locs 0 0 Q (F0 m 0 ls []) := by
  obtain ⟨⟨hx, hb, hml, hown, hts⟩, hr, hlk⟩ := id E
  unfold xo_X14_next_p2 at hf
  refine lv_aload_n hx hb dX14_next_0 rfl (lv_at hl 0 rfl) ?_
  refine gx_X14_13_1432 E hX hD hP dX14_next_1 ?_
  refine lv_iload_n hx hb dX14_next_4 rfl (lv_at hl 1 rfl) ?_
  refine lv_iload_n hx hb dX14_next_5 rfl (lv_at hl 2 rfl) ?_
  obtain ⟨v1, u2, hf⟩ := bdP hf
  refine cx_X14_17_X5_next_TF E hX hD hP hS hA (kxX5_next_TF l D G hD rfl rfl rfl rfl rfl rfl rfl rfl rfl rfl rfl rfl rfl rfl rfl rfl rfl rfl rfl rfl rfl rfl rfl rfl u2) ⟨rfl, rfl⟩ ⟨Nat.le_of_ble_eq_true rfl, Nat.le_of_ble_eq_true rfl⟩ ⟨Nat.zero_le _, Nat.zero_le _⟩ hl.1 (Nat.le_of_ble_eq_true rfl) dX14_next_6 (fun H locs hP hS => ?_)
  cases hf
  rw [hQ]; exact g_iret hx hb hr hlk hP hS dX14_next_9
theorem kxX14_next_p2 (l : Launch) (D : va_G) (G : Nat → ClassId) {dsc : Nat → Option Dsc} {ad : Nat → Nat} {σ : Sto} {nr nw nu : Nat} (hD : XD dsc nr nw nu) {x1 : Int32} {x2 : Int32} {r_ : Int32} {z_TF_by : Int32} (e_zI1092 : σ.1 1092 = z_TF_by) {z_TF_times : Int32} (e_zI1094 : σ.1 1094 = z_TF_times) {z_TF_of : Int32} (e_zI1095 : σ.1 1095 = z_TF_of) {z_L_places : Int32} (e_zI2008 : σ.1 2008 = z_L_places) {z_L_to : Int32} (e_zI2013 : σ.1 2013 = z_L_to) {z_Ld_size : Int32} (e_zI2027 : σ.1 2027 = z_Ld_size) {z_Lw_size : Int32} (e_zI2032 : σ.1 2032 = z_Lw_size) {z_TF_none : Int64} (e_zL1091 : σ.2.1 1091 = z_TF_none) {a_X_knowing : Nat → Int32} (e_aI1108 : σ.2.2.1 1108 = a_X_knowing) {a_UNIT : Nat → Int32} (e_aI1170 : σ.2.2.1 1170 = a_UNIT) {a_Lw_data : Nat → Int32} (e_aI2037 : σ.2.2.1 2037 = a_Lw_data) {a_L_seen : Nat → Int32} (e_aI2043 : σ.2.2.1 2043 = a_L_seen) {a_W_world : Nat → Int64} (e_aL1140 : σ.2.2.2.1 1140 = a_W_world) {a_W_likely : Nat → Int64} (e_aL1141 : σ.2.2.2.1 1141 = a_W_likely) {a_TF_value : Nat → Int64} (e_aL1153 : σ.2.2.2.1 1153 = a_TF_value) {n_r : Nat} (e_nN0 : nr = n_r) {n_w : Nat} (e_nN1 : nw = n_w) {p_road_hours : Nat → Int32} (e_pR2 : (fun k => σ.1 (6000 + 16 * k + 2)) = p_road_hours) {p_road_wait : Nat → Int32} (e_pR5 : (fun k => σ.1 (6000 + 16 * k + 5)) = p_road_wait) {p_road_number : Nat → Int32} (e_pR6 : (fun k => σ.1 (6000 + 16 * k + 6)) = p_road_number) {p_word_place : Nat → Int32} (e_pW0 : (fun k => σ.1 (8000 + 16 * k + 0)) = p_word_place) {p_word_road : Nat → Int32} (e_pW1 : (fun k => σ.1 (8000 + 16 * k + 1)) = p_word_road) {p_word_hours : Nat → Int32} (e_pW2 : (fun k => σ.1 (8000 + 16 * k + 2)) = p_word_hours) {g_grid : Nat → Nat → Int32} (e_gG0 : (fun k => σ.2.2.1 (4000 + 16 * k)) = g_grid) (hf : xo_X14_next_p2 z_TF_by z_TF_times z_TF_of z_L_places z_L_to z_Ld_size z_Lw_size z_TF_none a_X_knowing a_UNIT a_Lw_data a_L_seen a_W_world a_W_likely a_TF_value n_r n_w p_road_hours p_road_wait p_road_number p_word_place p_word_road p_word_hours g_grid x1 x2 = some r_) : CtG l D G dsc ad yX14_next (ws_ yX14_next cX14_next 3 (Option.some Jvm.ClassFile.FieldType.int)) rmX14_next_p2 [.ref (ad 1432), .int x1, .int x2] σ (some (.int r_)) σ := by
  subst e_zI1092
  subst e_zI1094
  subst e_zI1095
  subst e_zI2008
  subst e_zI2013
  subst e_zI2027
  subst e_zI2032
  subst e_zL1091
  subst e_aI1108
  subst e_aI1170
  subst e_aI2037
  subst e_aI2043
  subst e_aL1140
  subst e_aL1141
  subst e_aL1153
  subst e_nN0
  subst e_nN1
  subst e_pR2
  subst e_pR5
  subst e_pR6
  subst e_pW0
  subst e_pW1
  subst e_pW2
  subst e_gG0
  exact p_ctG (by decide +kernel) (Nat.le_of_ble_eq_true rfl) (fun p e s m below meth c0 ls A E hP hX hA hS hl => wkX14_next_p2 E hX hD hA hf rfl hP hS hl)
theorem gx_X9_3_1432 (E : EN p s m args meth c0 RX9 cc nL ret) (hX : KX D G ad A s s.heap) (hD : XD dsc nr nw nu) (hP : PIC D clsA G dsc ad σ H) (hdg : decode cc pc = .ok (.getfield 3, 3)) (kk : W p l e R s m args below meth c0 H locs cells slots Q (F0 m (pc + 3) ls (.ref (ad 1000) :: rest))) : W p l e R s m args below meth c0 H locs cells slots Q (F0 m pc ls (.ref (ad 1432) :: rest)) :=
  p_get E.1.1 E.1.2.1 E.1.2.2.2.2 in_X14 E.1.2.2.2.1 hX.1 hP (hD.1 _ _ dX_1432) rfl 0 (by decide) (E.1.2.2.2.2 _ q435) (fun _ h => h) rfl rfl hdg kk
theorem cx_X9_32_X14_next_p2 {rm : Room} {σ1 : Sto} {x1 : Int32} {x2 : Int32} {r : Int32} (E : EN p s m args meth c0 RX9 cc nL ret) (hX : KX D G ad A s s.heap) (hD : XD dsc nr nw nu) (hP : PIC D clsA G dsc ad σ H) (hS : va_S A s.heap H locs) (hA : ∀ q, PA dsc ad s.heap.size q → A q) (hM : CtG l D G dsc ad yX14_next (ws_ yX14_next cX14_next 3 (Option.some Jvm.ClassFile.FieldType.int)) rm [.ref (ad 1432), .int x1, .int x2] σ (some (.int r)) σ1) (hz : rm.cells = 0 ∧ rm.slots = 0) (hR : rm.frames + 1 ≤ R.frames ∧ 8 + (3 + 11) + rm.locals ≤ R.locals) (hcs : cells ≤ R.cells ∧ slots ≤ R.slots) (hsz : ls.size = nL) (hW : (rest.map fun v => v.category).sum ≤ 8) (hdg : decode cc pc = .ok (.invokevirtual 32, 3)) (kk : ∀ (H1 : Heap) (locs1 : List Loc), PIC D clsA G dsc ad σ1 H1 → va_S A s.heap H1 locs1 → W p l e R s m args below meth c0 H1 locs1 cells slots Q (F0 m (pc + 3) ls (.int r :: rest))) : W p l e R s m args below meth c0 H locs cells slots Q (F0 m pc ls (.int x2 :: .int x1 :: .ref (ad 1432) :: rest)) :=
  p_gU (As := [.int x1, .int x2]) (rest := rest) E.1 hX hP hS hA hM (cw_any (owner := "ShutPasses$Plan") (x := ⟨"ShutPasses$Plan", "next", "(II)I"⟩) (y := yX14_next) (C := "ShutPasses$ByTable") (index := 32) (own := RX9) 2 E.1.2.2.2.2 (lw_meth q1302) rfl hz.1 hz.2 (E.1.2.2.2.2 _ q1288) (E.1.2.2.2.2 _ q1290) (va_Decl.abs (hX.2.1.1 _ q1289 rfl)) (E.1.2.2.2.2 _ q1300) (E.1.2.2.2.2 _ q1301) (E.1.2.2.2.2 _ q140) (by decide +kernel) hR) (hD.1 _ _ dX_1432) rfl rfl rfl hsz rfl hW hdg hcs kk
/-! X9_hours_p2 (I)I -/
abbrev rmX9_hours_p2 : Room := { frames := 48, cells := 0, slots := 0, locals := 1309 }
set_option maxHeartbeats 4000000 in
theorem wkX9_hours_p2 {x1 : Int32} {r_ : Int32} (E : EN p s m args meth c0 RX9 cX9_hours 9 (Option.some Jvm.ClassFile.FieldType.int)) (hX : KX D G ad A s s.heap) (hD : XD dsc nr nw nu) (hA : ∀ q, PA dsc ad s.heap.size q → A q) (hf : xo_X9_hours_p2 (σ.1 1092) (σ.1 1094) (σ.1 1095) (σ.1 2008) (σ.1 2012) (σ.1 2013) (σ.1 2027) (σ.1 2032) (σ.2.1 1091) (σ.2.2.1 1108) (σ.2.2.1 1170) (σ.2.2.1 2037) (σ.2.2.1 2043) (σ.2.2.2.1 1140) (σ.2.2.2.1 1141) (σ.2.2.2.1 1153) nr nw (fun k => σ.1 (6000 + 16 * k + 2)) (fun k => σ.1 (6000 + 16 * k + 5)) (fun k => σ.1 (6000 + 16 * k + 6)) (fun k => σ.1 (8000 + 16 * k + 0)) (fun k => σ.1 (8000 + 16 * k + 1)) (fun k => σ.1 (8000 + 16 * k + 2)) (fun k => σ.2.2.1 (4000 + 16 * k)) x1 = some r_) (hQ : Q = MQ below (va_G1 (some (.int r_)) (fun t => PIC D clsA G dsc ad σ t.heap) A) args s 0 0 A) (hP : PIC D clsA G dsc ad σ H) (hS : va_S A s.heap H locs) (hl : lv_has ls 9 [(0, .ref (ad 1432)), (1, .int x1)]) : W p l e rmX9_hours_p2 s m args below meth c0 H locs 0 0 Q (F0 m 0 ls []) := by
  obtain ⟨⟨hx, hb, hml, hown, hts⟩, hr, hlk⟩ := id E
  unfold xo_X9_hours_p2 at hf
  refine lv_aload_n hx hb dX9_hours_0 rfl (lv_at hl 0 rfl) ?_
  refine gx_X9_3_1432 E hX hD hP dX9_hours_1 ?_
  refine gx_X9_15_1000 E hX hD hP dX9_hours_4 ?_
  refine gx_X9_19_2000 (v := (σ.1 2012)) E hX hD hP rfl dX9_hours_7 ?_
  refine lv_istore_n (lv' := [(2, .int (σ.1 2012)), (0, .ref (ad 1432)), (1, .int x1)]) hx hb dX9_hours_10 rfl hl (by decide) rfl (fun ls hl => ?_)
  refine lv_aload_n hx hb dX9_hours_11 rfl (lv_at hl 1 rfl) ?_
  refine gx_X9_3_1432 E hX hD hP dX9_hours_12 ?_
  refine lv_iload_n hx hb dX9_hours_15 rfl (lv_at hl 0 rfl) ?_
  refine lv_iconst hx hb dX9_hours_16 ic_0 ?_
  refine lv_iload_n hx hb dX9_hours_17 rfl (lv_at hl 2 rfl) ?_
  obtain ⟨v1, u2, hf⟩ := bdP hf
  refine cx_X9_25_X1_seeing E hX hD hP hS hA (kxX1_seeing l D G hD rfl rfl rfl u2) ⟨rfl, rfl⟩ ⟨Nat.le_of_ble_eq_true rfl, Nat.le_of_ble_eq_true rfl⟩ ⟨Nat.zero_le _, Nat.zero_le _⟩ hl.1 (Nat.le_of_ble_eq_true rfl) dX9_hours_18 (fun H locs hP hS => ?_)
  refine lv_istore_n (lv' := [(3, .int v1), (2, .int (σ.1 2012)), (0, .ref (ad 1432)), (1, .int x1)]) hx hb dX9_hours_21 rfl hl (by decide) rfl (fun ls hl => ?_)
  refine lv_iconst hx hb dX9_hours_22 ic_0 ?_
  refine lv_istore (lv' := [(4, .int 0), (3, .int v1), (2, .int (σ.1 2012)), (0, .ref (ad 1432)), (1, .int x1)]) hx hb dX9_hours_23 hl (by decide) rfl (fun ls hl => ?_)
  refine lv_iconst hx hb dX9_hours_25 ic_0 ?_
  refine lv_istore (lv' := [(5, .int 0), (4, .int 0), (3, .int v1), (2, .int (σ.1 2012)), (0, .ref (ad 1432)), (1, .int x1)]) hx hb dX9_hours_26 hl (by decide) rfl (fun ls hl => ?_)
  have LP28 : ∀ (st28 : Int32 × Int32 × Int32 × Int32) (ex28 : (Unit) ⊕ (Int32)), loop (xo_X9_hours_p2_L28 (σ.1 1092) (σ.1 1094) (σ.1 1095) (σ.1 2008) (σ.1 2013) (σ.1 2027) (σ.1 2032) (σ.2.1 1091) (σ.2.2.1 1108) (σ.2.2.1 1170) (σ.2.2.1 2037) (σ.2.2.1 2043) (σ.2.2.2.1 1140) (σ.2.2.2.1 1141) (σ.2.2.2.1 1153) nr nw (fun k => σ.1 (6000 + 16 * k + 2)) (fun k => σ.1 (6000 + 16 * k + 5)) (fun k => σ.1 (6000 + 16 * k + 6)) (fun k => σ.1 (8000 + 16 * k + 0)) (fun k => σ.1 (8000 + 16 * k + 1)) (fun k => σ.1 (8000 + 16 * k + 2)) (fun k => σ.2.2.1 (4000 + 16 * k)) x1) st28 = some ex28 → ∀ (H : Heap) (locs : List Loc), PIC D clsA G dsc ad σ H → va_S A s.heap H locs → ∀ (ls : Array Slot), lv_has ls 9 [(0, .ref (ad 1432)), (1, .int x1), (2, .int (st28.1)), (3, .int (st28.2.1)), (4, .int (st28.2.2.1)), (5, .int (st28.2.2.2))] → (ex28 = (.inl (())) → ∀ (H : Heap) (locs : List Loc), PIC D clsA G dsc ad σ H → va_S A s.heap H locs → ∀ (ls : Array Slot), lv_has ls 9 [] → W p l e rmX9_hours_p2 s m args below meth c0 H locs 0 0 Q (F0 m 64 ls [])) → (∀ (y32 : Int32), ex28 = (.inr y32) → ∀ (H : Heap) (locs : List Loc), PIC D clsA G dsc ad σ H → va_S A s.heap H locs → ∀ (ls : Array Slot), lv_has ls 9 [(4, .int y32)] → W p l e rmX9_hours_p2 s m args below meth c0 H locs 0 0 Q (F0 m 186 ls [])) → W p l e rmX9_hours_p2 s m args below meth c0 H locs 0 0 Q (F0 m 28 ls []) := by
    refine loop_P (fun st28 ex28 o28 hf ih28 hx28 => ?_)
    obtain ⟨y3, y4, y5, y6⟩ := st28
    intro H locs (hP : PIC D clsA G dsc ad σ H) hS ls (hl : lv_has ls 9 [(0, .ref (ad 1432)), (1, .int x1), (2, .int y3), (3, .int y4), (4, .int y5), (5, .int y6)]) KE28_0 KE28_1
    dsimp only [xo_X9_hours_p2_L28] at hf
    refine lv_iload_n hx hb dX9_hours_28 rfl (lv_at hl 2 rfl) ?_
    refine lv_aload_n hx hb dX9_hours_29 rfl (lv_at hl 0 rfl) ?_
    refine gx_X9_3_1432 E hX hD hP dX9_hours_30 ?_
    refine gx_X9_15_1000 E hX hD hP dX9_hours_33 ?_
    refine gx_X9_29_2000 (v := (σ.1 2013)) E hX hD hP rfl dX9_hours_36 ?_
    refine lv_icmp_eq (tgt := 186) hx hb dX9_hours_39 (by decide) (fun c7 => ?_) (fun c7 => ?_)
    · have hf := ifT c7 hf
      exact KE28_1 _ (hx28 _ (Option.some.inj hf).symm).symm H locs hP hS ls (lv_sub hl [4] rfl)
    · have hf := ifF c7 hf
      refine lv_aload_n hx hb dX9_hours_42 rfl (lv_at hl 0 rfl) ?_
      refine lv_iload_n hx hb dX9_hours_43 rfl (lv_at hl 2 rfl) ?_
      refine lv_iload_n hx hb dX9_hours_44 rfl (lv_at hl 3 rfl) ?_
      obtain ⟨v8, u9, hf⟩ := bdP hf
      refine cx_X9_32_X14_next_p2 E hX hD hP hS hA (kxX14_next_p2 l D G hD rfl rfl rfl rfl rfl rfl rfl rfl rfl rfl rfl rfl rfl rfl rfl rfl rfl rfl rfl rfl rfl rfl rfl rfl u9) ⟨rfl, rfl⟩ ⟨Nat.le_of_ble_eq_true rfl, Nat.le_of_ble_eq_true rfl⟩ ⟨Nat.zero_le _, Nat.zero_le _⟩ hl.1 (Nat.le_of_ble_eq_true rfl) dX9_hours_45 (fun H locs hP hS => ?_)
      refine lv_istore (lv' := [(6, .int v8), (0, .ref (ad 1432)), (1, .int x1), (2, .int y3), (3, .int y4), (4, .int y5), (5, .int y6)]) hx hb dX9_hours_48 hl (by decide) rfl (fun ls hl => ?_)
      refine lv_iload hx hb dX9_hours_50 (lv_at hl 0 rfl) ?_
      refine lv_bipush hx hb dX9_hours_52 bp_m2 ?_
      refine lv_icmp_eq (tgt := 64) hx hb dX9_hours_54 (by decide) (fun c10 => ?_) (fun c10 => ?_)
      · have hf := ifT c10 hf
        exact KE28_0  (hx28 _ (Option.some.inj hf).symm).symm H locs hP hS ls (lv_sub hl [] rfl)
      · have hf := ifF c10 hf
        refine lv_iload hx hb dX9_hours_57 (lv_at hl 6 rfl) ?_
        refine lv_bipush hx hb dX9_hours_59 bp_10 ?_
        refine lv_icmp_le (tgt := 67) hx hb dX9_hours_61 (by decide) (fun c11 => ?_) (fun c11 => ?_)
        · have hf := ifT c11 hf
          refine lv_iload_n hx hb dX9_hours_67 rfl (lv_at hl 4 rfl) ?_
          refine lv_istore (lv' := [(7, .int y4), (6, .int v8), (0, .ref (ad 1432)), (1, .int x1), (2, .int y3), (3, .int y4), (4, .int y5), (5, .int y6)]) hx hb dX9_hours_68 hl (by decide) rfl (fun ls hl => ?_)
          refine lv_iload hx hb dX9_hours_70 (lv_at hl 1 rfl) ?_
          refine lv_bipush hx hb dX9_hours_72 bp_100 ?_
          have J167 : ∀ (y12 : Int32) (y13 : Int32) (y14 : Int32), xo_X9_hours_p2_J167 y4 y6 y12 y13 y14 = some o28 → ∀ (H : Heap) (locs : List Loc), PIC D clsA G dsc ad σ H → va_S A s.heap H locs → ∀ (ls : Array Slot), lv_has ls 9 [(0, .ref (ad 1432)), (1, .int x1), (2, .int y12), (3, .int y13), (4, .int y14), (5, .int y6), (7, .int y4)] → W p l e rmX9_hours_p2 s m args below meth c0 H locs 0 0 Q (F0 m 167 ls []) := by
            intro y12 y13 y14 hf H locs hP hS ls hl
            unfold xo_X9_hours_p2_J167 at hf
            refine lv_iload_n hx hb dX9_hours_167 rfl (lv_at hl 3 rfl) ?_
            refine lv_iload hx hb dX9_hours_168 (lv_at hl 6 rfl) ?_
            have J181 : ∀ (k15 : Int32), xo_X9_hours_p2_J181 y12 y13 y14 k15 = some o28 → ∀ (H : Heap) (locs : List Loc), PIC D clsA G dsc ad σ H → va_S A s.heap H locs → ∀ (ls : Array Slot), lv_has ls 9 [(0, .ref (ad 1432)), (1, .int x1), (2, .int y12), (3, .int y13), (4, .int y14)] → W p l e rmX9_hours_p2 s m args below meth c0 H locs 0 0 Q (F0 m 181 ls [.int k15]) := by
              intro k15 hf H locs hP hS ls hl
              unfold xo_X9_hours_p2_J181 at hf
              refine lv_istore (lv' := [(5, .int k15), (0, .ref (ad 1432)), (1, .int x1), (2, .int y12), (3, .int y13), (4, .int y14)]) hx hb dX9_hours_181 hl (by decide) rfl (fun ls hl => ?_)
              refine lv_goto (tgt := 28) hx hb dX9_hours_183 (by decide) ?_
              exact ih28 _ (Option.some.inj hf).symm H locs hP hS ls (lv_sub hl [1, 2, 3, 4, 5, 0] rfl) KE28_0 KE28_1
            refine lv_icmp_ne (tgt := 180) hx hb dX9_hours_170 (by decide) (fun c16 => ?_) (fun c16 => ?_)
            · have hf := ifF c16 hf
              refine lv_iconst hx hb dX9_hours_180 ic_0 ?_
              exact J181 0 hf H locs hP hS ls (lv_sub hl [0, 1, 2, 3, 4] rfl)
            · have hf := ifT c16 hf
              refine lv_iload hx hb dX9_hours_173 (lv_at hl 5 rfl) ?_
              refine lv_iconst hx hb dX9_hours_175 ic_1 ?_
              refine lv_iadd hx hb dX9_hours_176 ?_
              refine lv_goto (tgt := 181) hx hb dX9_hours_177 (by decide) ?_
              exact J181 (y6 + 1) hf H locs hP hS ls (lv_sub hl [0, 1, 2, 3, 4] rfl)
          refine lv_icmp_lt (tgt := 134) hx hb dX9_hours_74 (by decide) (fun c17 => ?_) (fun c17 => ?_)
          · have hf := ifT c17 hf
            refine lv_iload hx hb dX9_hours_134 (lv_at hl 6 rfl) ?_
            refine lv_aload_n hx hb dX9_hours_136 rfl (lv_at hl 2 rfl) ?_
            refine gx_X9_3_1432 E hX hD hP dX9_hours_137 ?_
            refine gx_X9_15_1000 E hX hD hP dX9_hours_140 ?_
            refine lv_iload_n hx hb dX9_hours_143 rfl (lv_at hl 4 rfl) ?_
            refine lv_iload hx hb dX9_hours_144 (lv_at hl 1 rfl) ?_
            refine lv_iload_n hx hb dX9_hours_146 rfl (lv_at hl 5 rfl) ?_
            obtain ⟨v18, u19, hf⟩ := bdP hf
            refine cx_X9_57_X3_cost E hX hD hP hS hA (kxX3_cost l D G hD rfl rfl rfl rfl rfl rfl u19) ⟨rfl, rfl⟩ ⟨Nat.le_of_ble_eq_true rfl, Nat.le_of_ble_eq_true rfl⟩ ⟨Nat.zero_le _, Nat.zero_le _⟩ hl.1 (Nat.le_of_ble_eq_true rfl) dX9_hours_147 (fun H locs hP hS => ?_)
            refine lv_iadd hx hb dX9_hours_150 ?_
            obtain ⟨v20, hv20, hf⟩ := bdP hf
            refine nm_i (Option.some.inj hv20) ?_
            refine lv_istore (lv' := [(4, .int v20), (7, .int y4), (6, .int v8), (0, .ref (ad 1432)), (1, .int x1), (2, .int y3), (3, .int y4), (5, .int y6)]) hx hb dX9_hours_151 hl (by decide) rfl (fun ls hl => ?_)
            refine lv_iload hx hb dX9_hours_153 (lv_at hl 2 rfl) ?_
            refine lv_istore_n (lv' := [(2, .int v8), (4, .int v20), (7, .int y4), (6, .int v8), (0, .ref (ad 1432)), (1, .int x1), (3, .int y4), (5, .int y6)]) hx hb dX9_hours_155 rfl hl (by decide) rfl (fun ls hl => ?_)
            refine lv_aload_n hx hb dX9_hours_156 rfl (lv_at hl 4 rfl) ?_
            refine gx_X9_3_1432 E hX hD hP dX9_hours_157 ?_
            refine lv_iload_n hx hb dX9_hours_160 rfl (lv_at hl 0 rfl) ?_
            refine lv_iload_n hx hb dX9_hours_161 rfl (lv_at hl 6 rfl) ?_
            refine lv_iload_n hx hb dX9_hours_162 rfl (lv_at hl 5 rfl) ?_
            obtain ⟨v21, u22, hf⟩ := bdP hf
            refine cx_X9_25_X1_seeing E hX hD hP hS hA (kxX1_seeing l D G hD rfl rfl rfl u22) ⟨rfl, rfl⟩ ⟨Nat.le_of_ble_eq_true rfl, Nat.le_of_ble_eq_true rfl⟩ ⟨Nat.zero_le _, Nat.zero_le _⟩ hl.1 (Nat.le_of_ble_eq_true rfl) dX9_hours_163 (fun H locs hP hS => ?_)
            refine lv_istore_n (lv' := [(3, .int v21), (2, .int v8), (4, .int v20), (7, .int y4), (6, .int v8), (0, .ref (ad 1432)), (1, .int x1), (5, .int y6)]) hx hb dX9_hours_166 rfl hl (by decide) rfl (fun ls hl => ?_)
            exact J167 v8 v21 v20 hf H locs hP hS ls (lv_sub hl [5, 6, 1, 0, 2, 7, 3] rfl)
          · have hf := ifF c17 hf
            refine lv_aload_n hx hb dX9_hours_77 rfl (lv_at hl 2 rfl) ?_
            refine gx_X9_3_1432 E hX hD hP dX9_hours_78 ?_
            refine gx_X9_15_1000 E hX hD hP dX9_hours_81 ?_
            refine gx_X9_36_2000 E hX hD hP dX9_hours_84 ?_
            refine lv_iload hx hb dX9_hours_87 (lv_at hl 1 rfl) ?_
            refine lv_bipush hx hb dX9_hours_89 bp_100 ?_
            refine lv_isub hx hb dX9_hours_91 ?_
            obtain ⟨v23, u24, hf⟩ := bdP hf
            refine cx_X9_40_J2_get_Lw E hX hD hP hS hA (kxJ2_get_Lw l D G hD rfl rfl u24) ⟨rfl, rfl⟩ ⟨Nat.le_of_ble_eq_true rfl, Nat.le_of_ble_eq_true rfl⟩ ⟨Nat.zero_le _, Nat.zero_le _⟩ hl.1 (Nat.le_of_ble_eq_true rfl) dX9_hours_92 (fun H locs hP hS => ?_)
            obtain ⟨v25, hv25, hf⟩ := bdP hf
            refine p_castP (ci := 16) (q := (RX19, TX19, 3)) hx hb hX.1 hP hown (hts _ q1314) hv25 hD.2.2.1 rfl dX9_hours_95 ?_
            refine r_astore (lv' := [(8, va_rf (drf ad 8000 v25)), (7, .int y4), (6, .int v8), (0, .ref (ad 1432)), (1, .int x1), (2, .int y3), (3, .int y4), (4, .int y5), (5, .int y6)]) hx hb dX9_hours_98 hl (by decide) rfl (fun ls hl => ?_)
            refine lv_iload hx hb dX9_hours_100 (lv_at hl 7 rfl) ?_
            refine r_aload hx hb dX9_hours_102 (lv_at hl 0 rfl) ?_
            obtain ⟨v26, hv26, hf⟩ := bdP hf
            refine gp_X9_48_W E hX hD hP rfl hv26 dX9_hours_104 ?_
            refine lv_iadd hx hb dX9_hours_107 ?_
            obtain ⟨v27, hv27, hf⟩ := bdP hf
            refine nm_i (Option.some.inj hv27) ?_
            refine lv_istore (lv' := [(4, .int v27), (8, va_rf (drf ad 8000 v25)), (7, .int y4), (6, .int v8), (0, .ref (ad 1432)), (1, .int x1), (2, .int y3), (3, .int y4), (5, .int y6)]) hx hb dX9_hours_108 hl (by decide) rfl (fun ls hl => ?_)
            refine lv_iload_n hx hb dX9_hours_110 rfl (lv_at hl 7 rfl) ?_
            refine r_aload hx hb dX9_hours_111 (lv_at hl 1 rfl) ?_
            obtain ⟨v28, hv28, hf⟩ := bdP hf
            refine gp_X9_51_W E hX hD hP rfl hv28 dX9_hours_113 ?_
            refine lv_iconst hx hb dX9_hours_116 ic_1 ?_
            refine lv_iload_n hx hb dX9_hours_117 rfl (lv_at hl 5 rfl) ?_
            refine r_aload hx hb dX9_hours_118 (lv_at hl 1 rfl) ?_
            obtain ⟨v29, hv29, hf⟩ := bdP hf
            refine gp_X9_51_W E hX hD hP rfl hv29 dX9_hours_120 ?_
            refine lv_ishr hx hb dX9_hours_123 ?_
            refine lv_iconst hx hb dX9_hours_124 ic_1 ?_
            refine lv_iand hx hb dX9_hours_125 ?_
            refine lv_iadd hx hb dX9_hours_126 ?_
            obtain ⟨v30, u31, hf⟩ := bdP hf
            refine cx_X9_54_X1_with E hX hD hP hS hA (kxX1_with l D G hD rfl u31) ⟨rfl, rfl⟩ ⟨Nat.le_of_ble_eq_true rfl, Nat.le_of_ble_eq_true rfl⟩ ⟨Nat.zero_le _, Nat.zero_le _⟩ hl.1 (Nat.le_of_ble_eq_true rfl) dX9_hours_127 (fun H locs hP hS => ?_)
            refine lv_istore_n (lv' := [(3, .int v30), (4, .int v27), (8, va_rf (drf ad 8000 v25)), (7, .int y4), (6, .int v8), (0, .ref (ad 1432)), (1, .int x1), (2, .int y3), (5, .int y6)]) hx hb dX9_hours_130 rfl hl (by decide) rfl (fun ls hl => ?_)
            refine lv_goto (tgt := 167) hx hb dX9_hours_131 (by decide) ?_
            exact J167 y3 v30 v27 hf H locs hP hS ls (lv_sub hl [5, 6, 7, 0, 1, 8, 3] rfl)
        · have hf := ifF c11 hf
          exact KE28_0  (hx28 _ (Option.some.inj hf).symm).symm H locs hP hS ls (lv_sub hl [] rfl)
  obtain ⟨ex28, hlp28, hf⟩ := bdP hf
  refine LP28 ((σ.1 2012), v1, 0, 0) ex28 hlp28 H locs hP hS ls (lv_sub hl [4, 5, 3, 2, 1, 0] rfl) ?_ ?_
  · intro  hex28 H locs hP hS ls hl
    subst ex28
    dsimp only [sE_l, sE_r] at hf
    refine lv_bipush hx hb dX9_hours_64 bp_m2 ?_
    cases hf
    rw [hQ]; exact g_iret hx hb hr hlk hP hS dX9_hours_66
  · intro y32 hex28 H locs hP hS ls hl
    subst ex28
    dsimp only [sE_l, sE_r] at hf
    refine lv_iload hx hb dX9_hours_186 (lv_at hl 0 rfl) ?_
    cases hf
    rw [hQ]; exact g_iret hx hb hr hlk hP hS dX9_hours_188
theorem kxX9_hours_p2 (l : Launch) (D : va_G) (G : Nat → ClassId) {dsc : Nat → Option Dsc} {ad : Nat → Nat} {σ : Sto} {nr nw nu : Nat} (hD : XD dsc nr nw nu) {x1 : Int32} {r_ : Int32} {z_TF_by : Int32} (e_zI1092 : σ.1 1092 = z_TF_by) {z_TF_times : Int32} (e_zI1094 : σ.1 1094 = z_TF_times) {z_TF_of : Int32} (e_zI1095 : σ.1 1095 = z_TF_of) {z_L_places : Int32} (e_zI2008 : σ.1 2008 = z_L_places) {z_L_from : Int32} (e_zI2012 : σ.1 2012 = z_L_from) {z_L_to : Int32} (e_zI2013 : σ.1 2013 = z_L_to) {z_Ld_size : Int32} (e_zI2027 : σ.1 2027 = z_Ld_size) {z_Lw_size : Int32} (e_zI2032 : σ.1 2032 = z_Lw_size) {z_TF_none : Int64} (e_zL1091 : σ.2.1 1091 = z_TF_none) {a_X_knowing : Nat → Int32} (e_aI1108 : σ.2.2.1 1108 = a_X_knowing) {a_UNIT : Nat → Int32} (e_aI1170 : σ.2.2.1 1170 = a_UNIT) {a_Lw_data : Nat → Int32} (e_aI2037 : σ.2.2.1 2037 = a_Lw_data) {a_L_seen : Nat → Int32} (e_aI2043 : σ.2.2.1 2043 = a_L_seen) {a_W_world : Nat → Int64} (e_aL1140 : σ.2.2.2.1 1140 = a_W_world) {a_W_likely : Nat → Int64} (e_aL1141 : σ.2.2.2.1 1141 = a_W_likely) {a_TF_value : Nat → Int64} (e_aL1153 : σ.2.2.2.1 1153 = a_TF_value) {n_r : Nat} (e_nN0 : nr = n_r) {n_w : Nat} (e_nN1 : nw = n_w) {p_road_hours : Nat → Int32} (e_pR2 : (fun k => σ.1 (6000 + 16 * k + 2)) = p_road_hours) {p_road_wait : Nat → Int32} (e_pR5 : (fun k => σ.1 (6000 + 16 * k + 5)) = p_road_wait) {p_road_number : Nat → Int32} (e_pR6 : (fun k => σ.1 (6000 + 16 * k + 6)) = p_road_number) {p_word_place : Nat → Int32} (e_pW0 : (fun k => σ.1 (8000 + 16 * k + 0)) = p_word_place) {p_word_road : Nat → Int32} (e_pW1 : (fun k => σ.1 (8000 + 16 * k + 1)) = p_word_road) {p_word_hours : Nat → Int32} (e_pW2 : (fun k => σ.1 (8000 + 16 * k + 2)) = p_word_hours) {g_grid : Nat → Nat → Int32} (e_gG0 : (fun k => σ.2.2.1 (4000 + 16 * k)) = g_grid) (hf : xo_X9_hours_p2 z_TF_by z_TF_times z_TF_of z_L_places z_L_from z_L_to z_Ld_size z_Lw_size z_TF_none a_X_knowing a_UNIT a_Lw_data a_L_seen a_W_world a_W_likely a_TF_value n_r n_w p_road_hours p_road_wait p_road_number p_word_place p_word_road p_word_hours g_grid x1 = some r_) : CtG l D G dsc ad yX9_hours (ws_ yX9_hours cX9_hours 9 (Option.some Jvm.ClassFile.FieldType.int)) rmX9_hours_p2 [.ref (ad 1432), .int x1] σ (some (.int r_)) σ := by
  subst e_zI1092
  subst e_zI1094
  subst e_zI1095
  subst e_zI2008
  subst e_zI2012
  subst e_zI2013
  subst e_zI2027
  subst e_zI2032
  subst e_zL1091
  subst e_aI1108
  subst e_aI1170
  subst e_aI2037
  subst e_aI2043
  subst e_aL1140
  subst e_aL1141
  subst e_aL1153
  subst e_nN0
  subst e_nN1
  subst e_pR2
  subst e_pR5
  subst e_pR6
  subst e_pW0
  subst e_pW1
  subst e_pW2
  subst e_gG0
  exact p_ctG (by decide +kernel) (Nat.le_of_ble_eq_true rfl) (fun p e s m below meth c0 ls A E hP hX hA hS hl => wkX9_hours_p2 E hX hD hA hf rfl hP hS hl)
/-! X13_isOpen_p3 (II)Z -/
abbrev rmX13_isOpen_p3 : Room := { frames := 0, cells := 0, slots := 0, locals := 0 }
set_option maxHeartbeats 4000000 in
theorem wkX13_isOpen_p3 {x1 : Int32} {x2 : Int32} {r_ : Int32} (E : EN p s m args meth c0 RX13 cX13_isOpen 3 (Option.some Jvm.ClassFile.FieldType.boolean)) (hX : KX D G ad A s s.heap) (hD : XD dsc nr nw nu) (hA : ∀ q, PA dsc ad s.heap.size q → A q) (hf : xo_X13_isOpen_p3 x1 x2 = some r_) (hQ : Q = MQ below (va_G1 (some (.int r_)) (fun t => PIC D clsA G dsc ad σ t.heap) A) args s 0 0 A) (hP : PIC D clsA G dsc ad σ H) (hS : va_S A s.heap H locs) (hl : lv_has ls 3 [(0, .ref (ad 1448)), (1, .int x1), (2, .int x2)]) : W p l e rmX13_isOpen_p3 s m args below meth c0 H locs 0 0 Q (F0 m 0 ls []) := by
  obtain ⟨⟨hx, hb, hml, hown, hts⟩, hr, hlk⟩ := id E
  unfold xo_X13_isOpen_p3 at hf
  refine lv_iconst hx hb dX13_isOpen_0 ic_1 ?_
  cases hf
  rw [hQ]; exact g_nret hx hb hr hlk hP hS rfl dX13_isOpen_1
theorem kxX13_isOpen_p3 (l : Launch) (D : va_G) (G : Nat → ClassId) {dsc : Nat → Option Dsc} {ad : Nat → Nat} {σ : Sto} {nr nw nu : Nat} (hD : XD dsc nr nw nu) {x1 : Int32} {x2 : Int32} {r_ : Int32} (hf : xo_X13_isOpen_p3 x1 x2 = some r_) : CtG l D G dsc ad yX13_isOpen (ws_ yX13_isOpen cX13_isOpen 3 (Option.some Jvm.ClassFile.FieldType.boolean)) rmX13_isOpen_p3 [.ref (ad 1448), .int x1, .int x2] σ (some (.int r_)) σ := by
  exact p_ctG (by decide +kernel) (Nat.le_of_ble_eq_true rfl) (fun p e s m below meth c0 ls A E hP hX hA hS hl => wkX13_isOpen_p3 E hX hD hA hf rfl hP hS hl)
theorem gx_X10_3_1448 (E : EN p s m args meth c0 RX10 cc nL ret) (hX : KX D G ad A s s.heap) (hD : XD dsc nr nw nu) (hP : PIC D clsA G dsc ad σ H) (hdg : decode cc pc = .ok (.getfield 3, 3)) (kk : W p l e R s m args below meth c0 H locs cells slots Q (F0 m (pc + 3) ls (.ref (ad 1000) :: rest))) : W p l e R s m args below meth c0 H locs cells slots Q (F0 m pc ls (.ref (ad 1448) :: rest)) :=
  p_get E.1.1 E.1.2.1 E.1.2.2.2.2 in_X13 E.1.2.2.2.1 hX.1 hP (hD.1 _ _ dX_1448) rfl 1 (by decide) (E.1.2.2.2.2 _ q434) (fun _ h => h) rfl rfl hdg kk
theorem gx_X10_19_1000 (E : EN p s m args meth c0 RX10 cc nL ret) (hX : KX D G ad A s s.heap) (hD : XD dsc nr nw nu) (hP : PIC D clsA G dsc ad σ H) (hdg : decode cc pc = .ok (.getfield 19, 3)) (kk : W p l e R s m args below meth c0 H locs cells slots Q (F0 m (pc + 3) ls (.ref (ad 2000) :: rest))) : W p l e R s m args below meth c0 H locs cells slots Q (F0 m pc ls (.ref (ad 1000) :: rest)) :=
  p_getN E.1.1 E.1.2.1 E.1.2.2.2.2 in_X1 E.1.2.2.2.1 hX.1 hP (hD.1 _ _ dX_1000) rfl 5 (by decide) (hX.2.1.1 _ q510 rfl) (fun _ h => h) rfl rfl hdg kk
theorem cx_X10_23_X3_between {rm : Room} {σ1 : Sto} {x1 : Int32} {x2 : Int32} {r : Int32} (E : EN p s m args meth c0 RX10 cc nL ret) (hX : KX D G ad A s s.heap) (hD : XD dsc nr nw nu) (hP : PIC D clsA G dsc ad σ H) (hS : va_S A s.heap H locs) (hA : ∀ q, PA dsc ad s.heap.size q → A q) (hM : CtG l D G dsc ad yX3_between (ws_ yX3_between cX3_between 3 (Option.some (Jvm.ClassFile.FieldType.object "ShutPasses$Road"))) rm [.ref (ad 2000), .int x1, .int x2] σ (some (va_rf (drf ad 6000 r))) σ1) (hz : rm.cells = 0 ∧ rm.slots = 0) (hR : rm.frames + 1 ≤ R.frames ∧ 8 + (3 + 11) + rm.locals ≤ R.locals) (hcs : cells ≤ R.cells ∧ slots ≤ R.slots) (hsz : ls.size = nL) (hW : (rest.map fun v => v.category).sum ≤ 8) (hdg : decode cc pc = .ok (.invokevirtual 23, 3)) (kk : ∀ (H1 : Heap) (locs1 : List Loc), PIC D clsA G dsc ad σ1 H1 → va_S A s.heap H1 locs1 → W p l e R s m args below meth c0 H1 locs1 cells slots Q (F0 m (pc + 3) ls (va_rf (drf ad 6000 r) :: rest))) : W p l e R s m args below meth c0 H locs cells slots Q (F0 m pc ls (.int x2 :: .int x1 :: .ref (ad 2000) :: rest)) :=
  p_gV (As := [.int x1, .int x2]) (rest := rest) E.1 hX hP hS hA hM (cwV 2 E.1.2.2.2.2 (lw_V q1210 q812 q813 q126 q814) rfl hz.1 hz.2 (by decide +kernel) hR) (hD.1 _ _ dX_2000) rfl rfl rfl hsz rfl hW hdg hcs kk
theorem cx_X10_39_X3_cost {rm : Room} {σ1 : Sto} {x1 : Int32} {x2 : Int32} {x3 : Int32} {r : Int32} (E : EN p s m args meth c0 RX10 cc nL ret) (hX : KX D G ad A s s.heap) (hD : XD dsc nr nw nu) (hP : PIC D clsA G dsc ad σ H) (hS : va_S A s.heap H locs) (hA : ∀ q, PA dsc ad s.heap.size q → A q) (hM : CtG l D G dsc ad yX3_cost (ws_ yX3_cost cX3_cost 5 (Option.some Jvm.ClassFile.FieldType.int)) rm [.ref (ad 2000), .int x1, .int x2, .int x3] σ (some (.int r)) σ1) (hz : rm.cells = 0 ∧ rm.slots = 0) (hR : rm.frames + 1 ≤ R.frames ∧ 8 + (5 + 11) + rm.locals ≤ R.locals) (hcs : cells ≤ R.cells ∧ slots ≤ R.slots) (hsz : ls.size = nL) (hW : (rest.map fun v => v.category).sum ≤ 8) (hdg : decode cc pc = .ok (.invokevirtual 39, 3)) (kk : ∀ (H1 : Heap) (locs1 : List Loc), PIC D clsA G dsc ad σ1 H1 → va_S A s.heap H1 locs1 → W p l e R s m args below meth c0 H1 locs1 cells slots Q (F0 m (pc + 3) ls (.int r :: rest))) : W p l e R s m args below meth c0 H locs cells slots Q (F0 m pc ls (.int x3 :: .int x2 :: .int x1 :: .ref (ad 2000) :: rest)) :=
  p_gV (As := [.int x1, .int x2, .int x3]) (rest := rest) E.1 hX hP hS hA hM (cwV 3 E.1.2.2.2.2 (lw_V q1212 q1105 q1106 q126 q1107) rfl hz.1 hz.2 (by decide +kernel) hR) (hD.1 _ _ dX_2000) rfl rfl rfl hsz rfl hW hdg hcs kk
theorem gp_X10_29_R {v h : Int32} {f : Nat → Int32} (E : EN p s m args meth c0 RX10 cc nL ret) (hX : KX D G ad A s s.heap) (hD : XD dsc nr nw nu) (hP : PIC D clsA G dsc ad σ H) (hf : (fun k => σ.1 (6000 + 16 * k + 6)) = f) (hv : rdI f nr v = some h) (hdg : decode cc pc = .ok (.getfield 29, 3)) (kk : W p l e R s m args below meth c0 H locs cells slots Q (F0 m (pc + 3) ls (.int h :: rest))) : W p l e R s m args below meth c0 H locs cells slots Q (F0 m pc ls (va_rf (drf ad 6000 v) :: rest)) := by
  subst hf
  obtain ⟨h0, h1, h2⟩ := pool_ok hv
  exact p_nn h0 (p_getN E.1.1 E.1.2.1 E.1.2.2.2.2 in_X18 E.1.2.2.2.1 hX.1 hP (hD.2.1 _ h1) rfl 6 (by decide) (hX.2.1.1 _ q843 rfl) (fun _ h => h) rfl (congrArg Value.int h2) hdg kk)
theorem cx_X10_35_X1_digit {rm : Room} {σ1 : Sto} {x0 : Int32} {x1 : Int32} {r : Int32} (E : EN p s m args meth c0 RX10 cc nL ret) (hX : KX D G ad A s s.heap) (hD : XD dsc nr nw nu) (hP : PIC D clsA G dsc ad σ H) (hS : va_S A s.heap H locs) (hA : ∀ q, PA dsc ad s.heap.size q → A q) (hM : CtG l D G dsc ad yX1_digit (ws_ yX1_digit cX1_digit 2 (Option.some Jvm.ClassFile.FieldType.int)) rm [.int x0, .int x1] σ (some (.int r)) σ1) (hz : rm.cells = 0 ∧ rm.slots = 0) (hR : rm.frames + 1 ≤ R.frames ∧ 8 + (2 + 11) + rm.locals ≤ R.locals) (hcs : cells ≤ R.cells ∧ slots ≤ R.slots) (hsz : ls.size = nL) (hW : (rest.map fun v => v.category).sum ≤ 8) (hdg : decode cc pc = .ok (.invokestatic 35, 3)) (kk : ∀ (H1 : Heap) (locs1 : List Loc), PIC D clsA G dsc ad σ1 H1 → va_S A s.heap H1 locs1 → W p l e R s m args below meth c0 H1 locs1 cells slots Q (F0 m (pc + 3) ls (.int r :: rest))) : W p l e R s m args below meth c0 H locs cells slots Q (F0 m pc ls (.int x1 :: .int x0 :: rest)) :=
  p_gSN (As := [.int x0, .int x1]) (rest := rest) E.1 hX hP hS hA hM ⟨va_cnB 2 E.1.2.2.2.2 (lw_meth q1038) rfl hz.1 hz.2 (hX.2.1.1 _ q1211 rfl) (E.1.2.2.2.2 _ q124) (by decide +kernel) hR, (E.1.2.2.2.2 _ q1037), trivial⟩ rfl hsz rfl hW hdg hcs kk
theorem cx_X10_43_X13_isOpen_p3 {rm : Room} {σ1 : Sto} {x1 : Int32} {x2 : Int32} {r : Int32} (E : EN p s m args meth c0 RX10 cc nL ret) (hX : KX D G ad A s s.heap) (hD : XD dsc nr nw nu) (hP : PIC D clsA G dsc ad σ H) (hS : va_S A s.heap H locs) (hA : ∀ q, PA dsc ad s.heap.size q → A q) (hM : CtG l D G dsc ad yX13_isOpen (ws_ yX13_isOpen cX13_isOpen 3 (Option.some Jvm.ClassFile.FieldType.boolean)) rm [.ref (ad 1448), .int x1, .int x2] σ (some (.int r)) σ1) (hz : rm.cells = 0 ∧ rm.slots = 0) (hR : rm.frames + 1 ≤ R.frames ∧ 8 + (3 + 11) + rm.locals ≤ R.locals) (hcs : cells ≤ R.cells ∧ slots ≤ R.slots) (hsz : ls.size = nL) (hW : (rest.map fun v => v.category).sum ≤ 8) (hdg : decode cc pc = .ok (.invokevirtual 43, 3)) (kk : ∀ (H1 : Heap) (locs1 : List Loc), PIC D clsA G dsc ad σ1 H1 → va_S A s.heap H1 locs1 → W p l e R s m args below meth c0 H1 locs1 cells slots Q (F0 m (pc + 3) ls (.int r :: rest))) : W p l e R s m args below meth c0 H locs cells slots Q (F0 m pc ls (.int x2 :: .int x1 :: .ref (ad 1448) :: rest)) :=
  p_gU (As := [.int x1, .int x2]) (rest := rest) E.1 hX hP hS hA hM (cw_any (owner := "ShutPasses$AsIf") (x := ⟨"ShutPasses$AsIf", "isOpen", "(II)Z"⟩) (y := yX13_isOpen) (C := "ShutPasses$Hope") (index := 43) (own := RX10) 2 E.1.2.2.2.2 (lw_meth q1221) rfl hz.1 hz.2 (E.1.2.2.2.2 _ q1213) (E.1.2.2.2.2 _ q1215) (va_Decl.abs (hX.2.1.1 _ q1214 rfl)) (E.1.2.2.2.2 _ q1219) (E.1.2.2.2.2 _ q1220) (E.1.2.2.2.2 _ q139) (by decide +kernel) hR) (hD.1 _ _ dX_1448) rfl rfl rfl hsz rfl hW hdg hcs kk
theorem gp_X10_50_R {v h : Int32} {f : Nat → Int32} (E : EN p s m args meth c0 RX10 cc nL ret) (hX : KX D G ad A s s.heap) (hD : XD dsc nr nw nu) (hP : PIC D clsA G dsc ad σ H) (hf : (fun k => σ.1 (6000 + 16 * k + 5)) = f) (hv : rdI f nr v = some h) (hdg : decode cc pc = .ok (.getfield 50, 3)) (kk : W p l e R s m args below meth c0 H locs cells slots Q (F0 m (pc + 3) ls (.int h :: rest))) : W p l e R s m args below meth c0 H locs cells slots Q (F0 m pc ls (va_rf (drf ad 6000 v) :: rest)) := by
  subst hf
  obtain ⟨h0, h1, h2⟩ := pool_ok hv
  exact p_nn h0 (p_getN E.1.1 E.1.2.1 E.1.2.2.2.2 in_X18 E.1.2.2.2.1 hX.1 hP (hD.2.1 _ h1) rfl 5 (by decide) (hX.2.1.1 _ q838 rfl) (fun _ h => h) rfl (congrArg Value.int h2) hdg kk)
theorem gp_X10_47_R {v h : Int32} {f : Nat → Int32} (E : EN p s m args meth c0 RX10 cc nL ret) (hX : KX D G ad A s s.heap) (hD : XD dsc nr nw nu) (hP : PIC D clsA G dsc ad σ H) (hf : (fun k => σ.1 (6000 + 16 * k + 2)) = f) (hv : rdI f nr v = some h) (hdg : decode cc pc = .ok (.getfield 47, 3)) (kk : W p l e R s m args below meth c0 H locs cells slots Q (F0 m (pc + 3) ls (.int h :: rest))) : W p l e R s m args below meth c0 H locs cells slots Q (F0 m pc ls (va_rf (drf ad 6000 v) :: rest)) := by
  subst hf
  obtain ⟨h0, h1, h2⟩ := pool_ok hv
  exact p_nn h0 (p_getN E.1.1 E.1.2.1 E.1.2.2.2.2 in_X18 E.1.2.2.2.1 hX.1 hP (hD.2.1 _ h1) rfl 2 (by decide) (hX.2.1.1 _ q828 rfl) (fun _ h => h) rfl (congrArg Value.int h2) hdg kk)
/-! X10_cost_p3 (III)I -/
abbrev rmX10_cost_p3 : Room := { frames := 2, cells := 0, slots := 0, locals := 46 }
set_option maxHeartbeats 4000000 in
theorem wkX10_cost_p3 {x1 : Int32} {x2 : Int32} {x3 : Int32} {r_ : Int32} (E : EN p s m args meth c0 RX10 cX10_cost 5 (Option.some Jvm.ClassFile.FieldType.int)) (hX : KX D G ad A s s.heap) (hD : XD dsc nr nw nu) (hA : ∀ q, PA dsc ad s.heap.size q → A q) (hf : xo_X10_cost_p3 (σ.2.2.1 1170) nr (fun k => σ.1 (6000 + 16 * k + 2)) (fun k => σ.1 (6000 + 16 * k + 5)) (fun k => σ.1 (6000 + 16 * k + 6)) (fun k => σ.2.2.1 (4000 + 16 * k)) x1 x2 x3 = some r_) (hQ : Q = MQ below (va_G1 (some (.int r_)) (fun t => PIC D clsA G dsc ad σ t.heap) A) args s 0 0 A) (hP : PIC D clsA G dsc ad σ H) (hS : va_S A s.heap H locs) (hl : lv_has ls 5 [(0, .ref (ad 1448)), (1, .int x1), (2, .int x2), (3, .int x3)]) : W p l e rmX10_cost_p3 s m args below meth c0 H locs 0 0 Q (F0 m 0 ls []) := by
  obtain ⟨⟨hx, hb, hml, hown, hts⟩, hr, hlk⟩ := id E
  unfold xo_X10_cost_p3 at hf
  refine lv_aload_n hx hb dX10_cost_0 rfl (lv_at hl 0 rfl) ?_
  refine gx_X10_3_1448 E hX hD hP dX10_cost_1 ?_
  refine gx_X10_19_1000 E hX hD hP dX10_cost_4 ?_
  refine lv_iload_n hx hb dX10_cost_7 rfl (lv_at hl 1 rfl) ?_
  refine lv_iload_n hx hb dX10_cost_8 rfl (lv_at hl 2 rfl) ?_
  obtain ⟨v1, u2, hf⟩ := bdP hf
  refine cx_X10_23_X3_between E hX hD hP hS hA (kxX3_between l D G hD rfl u2) ⟨rfl, rfl⟩ ⟨Nat.le_of_ble_eq_true rfl, Nat.le_of_ble_eq_true rfl⟩ ⟨Nat.zero_le _, Nat.zero_le _⟩ hl.1 (Nat.le_of_ble_eq_true rfl) dX10_cost_9 (fun H locs hP hS => ?_)
  refine r_astore (lv' := [(4, va_rf (drf ad 6000 v1)), (0, .ref (ad 1448)), (1, .int x1), (2, .int x2), (3, .int x3)]) hx hb dX10_cost_12 hl (by decide) rfl (fun ls hl => ?_)
  refine r_aload hx hb dX10_cost_14 (lv_at hl 0 rfl) ?_
  have J40 : xo_X10_cost_p3_J40 (σ.2.2.1 1170) nr (fun k => σ.1 (6000 + 16 * k + 2)) (fun k => σ.1 (6000 + 16 * k + 5)) (fun k => σ.1 (6000 + 16 * k + 6)) (fun k => σ.2.2.1 (4000 + 16 * k)) x1 x2 x3 = some r_ → ∀ (H : Heap) (locs : List Loc), PIC D clsA G dsc ad σ H → va_S A s.heap H locs → ∀ (ls : Array Slot), lv_has ls 5 [(0, .ref (ad 1448)), (1, .int x1), (2, .int x2), (3, .int x3)] → W p l e rmX10_cost_p3 s m args below meth c0 H locs 0 0 Q (F0 m 40 ls []) := by
    intro  hf H locs hP hS ls hl
    unfold xo_X10_cost_p3_J40 at hf
    refine lv_aload_n hx hb dX10_cost_40 rfl (lv_at hl 0 rfl) ?_
    refine gx_X10_3_1448 E hX hD hP dX10_cost_41 ?_
    refine gx_X10_19_1000 E hX hD hP dX10_cost_44 ?_
    refine lv_iload_n hx hb dX10_cost_47 rfl (lv_at hl 1 rfl) ?_
    refine lv_iload_n hx hb dX10_cost_48 rfl (lv_at hl 2 rfl) ?_
    refine lv_iload_n hx hb dX10_cost_49 rfl (lv_at hl 3 rfl) ?_
    obtain ⟨v3, u4, hf⟩ := bdP hf
    refine cx_X10_39_X3_cost E hX hD hP hS hA (kxX3_cost l D G hD rfl rfl rfl rfl rfl rfl u4) ⟨rfl, rfl⟩ ⟨Nat.le_of_ble_eq_true rfl, Nat.le_of_ble_eq_true rfl⟩ ⟨Nat.zero_le _, Nat.zero_le _⟩ hl.1 (Nat.le_of_ble_eq_true rfl) dX10_cost_50 (fun H locs hP hS => ?_)
    cases hf
    rw [hQ]; exact g_iret hx hb hr hlk hP hS dX10_cost_53
  refine r_ifnull (tgt := 40) hx hb dX10_cost_16 (by decide) (fun c5 => ?_) (fun c5 => ?_)
  · have hf := ifT c5 hf
    exact J40  hf H locs hP hS ls (lv_sub hl [1, 2, 3, 4] rfl)
  · have hf := ifF c5 hf
    refine r_aload hx hb dX10_cost_19 (lv_at hl 0 rfl) ?_
    obtain ⟨v6, hv6, hf⟩ := bdP hf
    refine gp_X10_29_R E hX hD hP rfl hv6 dX10_cost_21 ?_
    refine lv_iconst hx hb dX10_cost_24 ic_m1 ?_
    refine lv_icmp_eq (tgt := 40) hx hb dX10_cost_25 (by decide) (fun c7 => ?_) (fun c7 => ?_)
    · have hf := ifT c7 hf
      exact J40  hf H locs hP hS ls (lv_sub hl [1, 2, 3, 4] rfl)
    · have hf := ifF c7 hf
      refine lv_iload_n hx hb dX10_cost_28 rfl (lv_at hl 4 rfl) ?_
      refine r_aload hx hb dX10_cost_29 (lv_at hl 0 rfl) ?_
      obtain ⟨v8, hv8, hf⟩ := bdP hf
      refine gp_X10_29_R E hX hD hP rfl hv8 dX10_cost_31 ?_
      obtain ⟨v9, u10, hf⟩ := bdP hf
      refine cx_X10_35_X1_digit E hX hD hP hS hA (kxX1_digit l D G hD rfl u10) ⟨rfl, rfl⟩ ⟨Nat.le_of_ble_eq_true rfl, Nat.le_of_ble_eq_true rfl⟩ ⟨Nat.zero_le _, Nat.zero_le _⟩ hl.1 (Nat.le_of_ble_eq_true rfl) dX10_cost_34 (fun H locs hP hS => ?_)
      refine lv_if_eq (tgt := 54) hx hb dX10_cost_37 (by decide) (fun c11 => ?_) (fun c11 => ?_)
      · have hf := ifT c11 hf
        refine lv_aload_n hx hb dX10_cost_54 rfl (lv_at hl 1 rfl) ?_
        refine r_aload hx hb dX10_cost_55 (lv_at hl 0 rfl) ?_
        obtain ⟨v12, hv12, hf⟩ := bdP hf
        refine gp_X10_29_R E hX hD hP rfl hv12 dX10_cost_57 ?_
        refine lv_iload_n hx hb dX10_cost_60 rfl (lv_at hl 4 rfl) ?_
        obtain ⟨v13, u14, hf⟩ := bdP hf
        refine cx_X10_43_X13_isOpen_p3 E hX hD hP hS hA (kxX13_isOpen_p3 l D G hD u14) ⟨rfl, rfl⟩ ⟨Nat.le_of_ble_eq_true rfl, Nat.le_of_ble_eq_true rfl⟩ ⟨Nat.zero_le _, Nat.zero_le _⟩ hl.1 (Nat.le_of_ble_eq_true rfl) dX10_cost_61 (fun H locs hP hS => ?_)
        refine lv_if_eq (tgt := 75) hx hb dX10_cost_64 (by decide) (fun c15 => ?_) (fun c15 => ?_)
        · have hf := ifT c15 hf
          refine r_aload hx hb dX10_cost_75 (lv_at hl 0 rfl) ?_
          obtain ⟨v16, hv16, hf⟩ := bdP hf
          refine gp_X10_50_R E hX hD hP rfl hv16 dX10_cost_77 ?_
          refine lv_if_le (tgt := 97) hx hb dX10_cost_80 (by decide) (fun c17 => ?_) (fun c17 => ?_)
          · have hf := ifT c17 hf
            refine lv_ldc hx hb hown (hts _ q1205) dX10_cost_97 ?_
            cases hf
            rw [hQ]; exact g_iret hx hb hr hlk hP hS dX10_cost_99
          · have hf := ifF c17 hf
            refine r_aload hx hb dX10_cost_83 (lv_at hl 0 rfl) ?_
            obtain ⟨v18, hv18, hf⟩ := bdP hf
            refine gp_X10_47_R E hX hD hP rfl hv18 dX10_cost_85 ?_
            refine r_aload hx hb dX10_cost_88 (lv_at hl 0 rfl) ?_
            obtain ⟨v19, hv19, hf⟩ := bdP hf
            refine gp_X10_50_R E hX hD hP rfl hv19 dX10_cost_90 ?_
            refine lv_iadd hx hb dX10_cost_93 ?_
            refine lv_goto (tgt := 99) hx hb dX10_cost_94 (by decide) ?_
            cases hf
            rw [hQ]; exact g_iret hx hb hr hlk hP hS dX10_cost_99
        · have hf := ifF c15 hf
          refine r_aload hx hb dX10_cost_67 (lv_at hl 0 rfl) ?_
          obtain ⟨v20, hv20, hf⟩ := bdP hf
          refine gp_X10_47_R E hX hD hP rfl hv20 dX10_cost_69 ?_
          refine lv_goto (tgt := 99) hx hb dX10_cost_72 (by decide) ?_
          cases hf
          rw [hQ]; exact g_iret hx hb hr hlk hP hS dX10_cost_99
      · have hf := ifF c11 hf
        exact J40  hf H locs hP hS ls (lv_sub hl [1, 2, 3, 4] rfl)
theorem kxX10_cost_p3 (l : Launch) (D : va_G) (G : Nat → ClassId) {dsc : Nat → Option Dsc} {ad : Nat → Nat} {σ : Sto} {nr nw nu : Nat} (hD : XD dsc nr nw nu) {x1 : Int32} {x2 : Int32} {x3 : Int32} {r_ : Int32} {a_UNIT : Nat → Int32} (e_aI1170 : σ.2.2.1 1170 = a_UNIT) {n_r : Nat} (e_nN0 : nr = n_r) {p_road_hours : Nat → Int32} (e_pR2 : (fun k => σ.1 (6000 + 16 * k + 2)) = p_road_hours) {p_road_wait : Nat → Int32} (e_pR5 : (fun k => σ.1 (6000 + 16 * k + 5)) = p_road_wait) {p_road_number : Nat → Int32} (e_pR6 : (fun k => σ.1 (6000 + 16 * k + 6)) = p_road_number) {g_grid : Nat → Nat → Int32} (e_gG0 : (fun k => σ.2.2.1 (4000 + 16 * k)) = g_grid) (hf : xo_X10_cost_p3 a_UNIT n_r p_road_hours p_road_wait p_road_number g_grid x1 x2 x3 = some r_) : CtG l D G dsc ad yX10_cost (ws_ yX10_cost cX10_cost 5 (Option.some Jvm.ClassFile.FieldType.int)) rmX10_cost_p3 [.ref (ad 1448), .int x1, .int x2, .int x3] σ (some (.int r_)) σ := by
  subst e_aI1170
  subst e_nN0
  subst e_pR2
  subst e_pR5
  subst e_pR6
  subst e_gG0
  exact p_ctG (by decide +kernel) (Nat.le_of_ble_eq_true rfl) (fun p e s m below meth c0 ls A E hP hX hA hS hl => wkX10_cost_p3 E hX hD hA hf rfl hP hS hl)
theorem gx_X10_54_2000 {v : Int32} (E : EN p s m args meth c0 RX10 cc nL ret) (hX : KX D G ad A s s.heap) (hD : XD dsc nr nw nu) (hP : PIC D clsA G dsc ad σ H) (hv : σ.1 2013 = v) (hdg : decode cc pc = .ok (.getfield 54, 3)) (kk : W p l e R s m args below meth c0 H locs cells slots Q (F0 m (pc + 3) ls (.int v :: rest))) : W p l e R s m args below meth c0 H locs cells slots Q (F0 m pc ls (.ref (ad 2000) :: rest)) :=
  p_getN E.1.1 E.1.2.1 E.1.2.2.2.2 in_X3 E.1.2.2.2.1 hX.1 hP (hD.1 _ _ dX_2000) rfl 13 (by decide) (hX.2.1.1 _ q283 rfl) (fun _ h => h) rfl (congrArg Value.int hv) hdg kk
theorem gx_X10_57_2000 {v : Int32} (E : EN p s m args meth c0 RX10 cc nL ret) (hX : KX D G ad A s s.heap) (hD : XD dsc nr nw nu) (hP : PIC D clsA G dsc ad σ H) (hv : σ.1 2008 = v) (hdg : decode cc pc = .ok (.getfield 57, 3)) (kk : W p l e R s m args below meth c0 H locs cells slots Q (F0 m (pc + 3) ls (.int v :: rest))) : W p l e R s m args below meth c0 H locs cells slots Q (F0 m pc ls (.ref (ad 2000) :: rest)) :=
  p_getN E.1.1 E.1.2.1 E.1.2.2.2.2 in_X3 E.1.2.2.2.1 hX.1 hP (hD.1 _ _ dX_2000) rfl 8 (by decide) (hX.2.1.1 _ q264 rfl) (fun _ h => h) rfl (congrArg Value.int hv) hdg kk
theorem gx_X10_15_1448 (E : EN p s m args meth c0 RX10 cc nL ret) (hX : KX D G ad A s s.heap) (hD : XD dsc nr nw nu) (hP : PIC D clsA G dsc ad σ H) (hdg : decode cc pc = .ok (.getfield 15, 3)) (kk : W p l e R s m args below meth c0 H locs cells slots Q (F0 m (pc + 3) ls (.ref (ad 1162) :: rest))) : W p l e R s m args below meth c0 H locs cells slots Q (F0 m pc ls (.ref (ad 1448) :: rest)) :=
  p_get E.1.1 E.1.2.1 E.1.2.2.2.2 in_X13 E.1.2.2.2.1 hX.1 hP (hD.1 _ _ dX_1448) rfl 0 (by decide) (E.1.2.2.2.2 _ q433) (fun _ h => h) rfl rfl hdg kk
theorem cx_X10_60_X10_cost_p3 {rm : Room} {σ1 : Sto} {x1 : Int32} {x2 : Int32} {x3 : Int32} {r : Int32} (E : EN p s m args meth c0 RX10 cc nL ret) (hX : KX D G ad A s s.heap) (hD : XD dsc nr nw nu) (hP : PIC D clsA G dsc ad σ H) (hS : va_S A s.heap H locs) (hA : ∀ q, PA dsc ad s.heap.size q → A q) (hM : CtG l D G dsc ad yX10_cost (ws_ yX10_cost cX10_cost 5 (Option.some Jvm.ClassFile.FieldType.int)) rm [.ref (ad 1448), .int x1, .int x2, .int x3] σ (some (.int r)) σ1) (hz : rm.cells = 0 ∧ rm.slots = 0) (hR : rm.frames + 1 ≤ R.frames ∧ 8 + (5 + 11) + rm.locals ≤ R.locals) (hcs : cells ≤ R.cells ∧ slots ≤ R.slots) (hsz : ls.size = nL) (hW : (rest.map fun v => v.category).sum ≤ 8) (hdg : decode cc pc = .ok (.invokevirtual 60, 3)) (kk : ∀ (H1 : Heap) (locs1 : List Loc), PIC D clsA G dsc ad σ1 H1 → va_S A s.heap H1 locs1 → W p l e R s m args below meth c0 H1 locs1 cells slots Q (F0 m (pc + 3) ls (.int r :: rest))) : W p l e R s m args below meth c0 H locs cells slots Q (F0 m pc ls (.int x3 :: .int x2 :: .int x1 :: .ref (ad 1448) :: rest)) :=
  p_gU (As := [.int x1, .int x2, .int x3]) (rest := rest) E.1 hX hP hS hA hM (cw_any (owner := "ShutPasses$AsIf") (x := ⟨"ShutPasses$AsIf", "cost", "(III)I"⟩) (y := yX10_cost) (C := "ShutPasses$Hope") (index := 60) (own := RX10) 3 E.1.2.2.2.2 (lw_meth q1209) rfl hz.1 hz.2 (E.1.2.2.2.2 _ q1206) (E.1.2.2.2.2 _ q2283) (va_Decl.of (E.1.2.2.2.2 _ q1208) (E.1.2.2.2.2 _ q1209)) (va_Nw.use rfl (hX.2.1.2 ("ShutPasses$Hope", yX10_cost) (by decide +kernel))) (E.1.2.2.2.2 _ q1208) (E.1.2.2.2.2 _ q136) (by decide +kernel) hR) (hD.1 _ _ dX_1448) rfl rfl rfl hsz rfl hW hdg hcs kk
/-! X10_next_p3 (II)I -/
def sgX10_next_p3 (σ : Sto) (w0 : Nat → Int32) : Sto := aI σ 1162 w0
theorem sgX10_next_p3_self (σ : Sto) : sgX10_next_p3 σ (σ.2.2.1 1162) = σ := by
  unfold sgX10_next_p3
  simp only [zI_self, zL_self, aI_self, aL_self]
theorem sgX10_next_p3_aI1162 {σ : Sto} {w0 : Nat → Int32} {g : Nat → Int32} : aI (sgX10_next_p3 σ w0) 1162 g = sgX10_next_p3 σ g := aI_aI _ 1162 _ _
theorem sgX10_next_p3_rzI2008 {σ : Sto} {w0 : Nat → Int32} : (sgX10_next_p3 σ w0).1 2008 = σ.1 2008 := rfl
theorem sgX10_next_p3_rzI2013 {σ : Sto} {w0 : Nat → Int32} : (sgX10_next_p3 σ w0).1 2013 = σ.1 2013 := rfl
theorem sgX10_next_p3_raI1162 {σ : Sto} {w0 : Nat → Int32} : (sgX10_next_p3 σ w0).2.2.1 1162 = w0 := rfl
theorem sgX10_next_p3_raI1170 {σ : Sto} {w0 : Nat → Int32} : (sgX10_next_p3 σ w0).2.2.1 1170 = σ.2.2.1 1170 := rfl
theorem sgX10_next_p3_rpR2 {σ : Sto} {w0 : Nat → Int32} : (fun k => (sgX10_next_p3 σ w0).1 (6000 + 16 * k + 2)) = (fun k => σ.1 (6000 + 16 * k + 2)) := by
  funext k
  unfold sgX10_next_p3
  dsimp only [zI, zL, aI, aL]
  repeat rw [if_neg (by omega)]
theorem sgX10_next_p3_rpR5 {σ : Sto} {w0 : Nat → Int32} : (fun k => (sgX10_next_p3 σ w0).1 (6000 + 16 * k + 5)) = (fun k => σ.1 (6000 + 16 * k + 5)) := by
  funext k
  unfold sgX10_next_p3
  dsimp only [zI, zL, aI, aL]
  repeat rw [if_neg (by omega)]
theorem sgX10_next_p3_rpR6 {σ : Sto} {w0 : Nat → Int32} : (fun k => (sgX10_next_p3 σ w0).1 (6000 + 16 * k + 6)) = (fun k => σ.1 (6000 + 16 * k + 6)) := by
  funext k
  unfold sgX10_next_p3
  dsimp only [zI, zL, aI, aL]
  repeat rw [if_neg (by omega)]
theorem sgX10_next_p3_rgG0 {σ : Sto} {w0 : Nat → Int32} : (fun k => (sgX10_next_p3 σ w0).2.2.1 (4000 + 16 * k)) = (fun k => σ.2.2.1 (4000 + 16 * k)) := by
  funext k
  unfold sgX10_next_p3
  dsimp only [zI, zL, aI, aL]
  repeat rw [if_neg (by omega)]
abbrev rmX10_next_p3 : Room := { frames := 3, cells := 0, slots := 0, locals := 70 }
set_option maxHeartbeats 4000000 in
theorem wkX10_next_p3 {x1 : Int32} {x2 : Int32} {r_ : Int32} {w_aI1162 : Nat → Int32} (E : EN p s m args meth c0 RX10 cX10_next 7 (Option.some Jvm.ClassFile.FieldType.int)) (hX : KX D G ad A s s.heap) (hD : XD dsc nr nw nu) (hA : ∀ q, PA dsc ad s.heap.size q → A q) (hf : xo_X10_next_p3 (σ.1 2008) (σ.1 2013) (σ.2.2.1 1162) (σ.2.2.1 1170) nr (fun k => σ.1 (6000 + 16 * k + 2)) (fun k => σ.1 (6000 + 16 * k + 5)) (fun k => σ.1 (6000 + 16 * k + 6)) (fun k => σ.2.2.1 (4000 + 16 * k)) x1 x2 = some (r_, w_aI1162)) (hQ : Q = MQ below (va_G1 (some (.int r_)) (fun t => PIC D clsA G dsc ad (sgX10_next_p3 σ w_aI1162) t.heap) A) args s 0 0 A) (hP : PIC D clsA G dsc ad σ H) (hS : va_S A s.heap H locs) (hl : lv_has ls 7 [(0, .ref (ad 1448)), (1, .int x1), (2, .int x2)]) : W p l e rmX10_next_p3 s m args below meth c0 H locs 0 0 Q (F0 m 0 ls []) := by
  obtain ⟨⟨hx, hb, hml, hown, hts⟩, hr, hlk⟩ := id E
  have hP := hP.to (sgX10_next_p3_self σ).symm
  unfold xo_X10_next_p3 at hf
  refine lv_iload_n hx hb dX10_next_0 rfl (lv_at hl 1 rfl) ?_
  refine lv_aload_n hx hb dX10_next_1 rfl (lv_at hl 0 rfl) ?_
  refine gx_X10_3_1448 E hX hD hP dX10_next_2 ?_
  refine gx_X10_19_1000 E hX hD hP dX10_next_5 ?_
  refine gx_X10_54_2000 (v := (σ.1 2013)) E hX hD hP sgX10_next_p3_rzI2013 dX10_next_8 ?_
  refine lv_icmp_ne (tgt := 17) hx hb dX10_next_11 (by decide) (fun c1 => ?_) (fun c1 => ?_)
  · have hf := ifF c1 hf
    refine lv_iconst hx hb dX10_next_17 ic_0 ?_
    refine lv_istore_n (lv' := [(3, .int 0), (0, .ref (ad 1448)), (1, .int x1), (2, .int x2)]) hx hb dX10_next_18 rfl hl (by decide) rfl (fun ls hl => ?_)
    have LP19 : ∀ (st19 : Int32 × (Nat → Int32)) (ex19 : ((Nat → Int32))), loop (xo_X10_next_p3_L19 (σ.1 2008) (σ.1 2013)) st19 = some ex19 → ∀ (H : Heap) (locs : List Loc), PIC D clsA G dsc ad (sgX10_next_p3 σ (st19.2)) H → va_S A s.heap H locs → ∀ (ls : Array Slot), lv_has ls 7 [(0, .ref (ad 1448)), (1, .int x1), (2, .int x2), (3, .int (st19.1))] → (∀ (a10 : Nat → Int32), ex19 = a10 → ∀ (H : Heap) (locs : List Loc), PIC D clsA G dsc ad (sgX10_next_p3 σ a10) H → va_S A s.heap H locs → ∀ (ls : Array Slot), lv_has ls 7 [(0, .ref (ad 1448)), (1, .int x1), (2, .int x2)] → W p l e rmX10_next_p3 s m args below meth c0 H locs 0 0 Q (F0 m 65 ls [])) → W p l e rmX10_next_p3 s m args below meth c0 H locs 0 0 Q (F0 m 19 ls []) := by
      refine loop_P (fun st19 ex19 o19 hf ih19 hx19 => ?_)
      obtain ⟨y2, a3⟩ := st19
      intro H locs (hP : PIC D clsA G dsc ad (sgX10_next_p3 σ a3) H) hS ls (hl : lv_has ls 7 [(0, .ref (ad 1448)), (1, .int x1), (2, .int x2), (3, .int y2)]) KE19_0
      dsimp only [xo_X10_next_p3_L19] at hf
      refine lv_iload_n hx hb dX10_next_19 rfl (lv_at hl 3 rfl) ?_
      refine lv_aload_n hx hb dX10_next_20 rfl (lv_at hl 0 rfl) ?_
      refine gx_X10_3_1448 E hX hD hP dX10_next_21 ?_
      refine gx_X10_19_1000 E hX hD hP dX10_next_24 ?_
      refine gx_X10_57_2000 (v := (σ.1 2008)) E hX hD hP sgX10_next_p3_rzI2008 dX10_next_27 ?_
      refine lv_icmp_ge (tgt := 65) hx hb dX10_next_30 (by decide) (fun c4 => ?_) (fun c4 => ?_)
      · have hf := ifT c4 hf
        exact KE19_0 _ (hx19 _ (Option.some.inj hf).symm).symm H locs hP hS ls (lv_sub hl [0, 1, 2] rfl)
      · have hf := ifF c4 hf
        refine lv_aload_n hx hb dX10_next_33 rfl (lv_at hl 0 rfl) ?_
        refine gx_X10_15_1448 E hX hD hP dX10_next_34 ?_
        refine lv_iload_n hx hb dX10_next_37 rfl (lv_at hl 3 rfl) ?_
        refine lv_iload_n hx hb dX10_next_38 rfl (lv_at hl 3 rfl) ?_
        refine lv_aload_n hx hb dX10_next_39 rfl (lv_at hl 0 rfl) ?_
        refine gx_X10_3_1448 E hX hD hP dX10_next_40 ?_
        refine gx_X10_19_1000 E hX hD hP dX10_next_43 ?_
        refine gx_X10_54_2000 (v := (σ.1 2013)) E hX hD hP sgX10_next_p3_rzI2013 dX10_next_46 ?_
        have J58 : ∀ (k5 : Int32) (k6 : Int32), xo_X10_next_p3_J58 y2 a3 k5 k6 = some o19 → ∀ (H : Heap) (locs : List Loc), PIC D clsA G dsc ad (sgX10_next_p3 σ a3) H → va_S A s.heap H locs → ∀ (ls : Array Slot), lv_has ls 7 [(0, .ref (ad 1448)), (1, .int x1), (2, .int x2), (3, .int y2)] → W p l e rmX10_next_p3 s m args below meth c0 H locs 0 0 Q (F0 m 58 ls [.int k5, .int k6, .ref (ad 1162)]) := by
          intro k5 k6 hf H locs hP hS ls hl
          unfold xo_X10_next_p3_J58 at hf
          obtain ⟨a7, ha7, hf⟩ := bdP hf
          refine p_iast hx hb hX.1 hP hS (hA _ (PA_c (hD.1 _ _ dX_1162))) (hD.1 _ _ dX_1162) sgX10_next_p3_raI1162 ha7 sgX10_next_p3_aI1162 dX10_next_58 (fun H locs hP hS => ?_)
          obtain ⟨v8, hv8, hf⟩ := bdP hf
          refine lv_iinc (v := v8) (lv' := [(3, .int v8), (0, .ref (ad 1448)), (1, .int x1), (2, .int x2)]) hx hb dX10_next_59 hl (k := 3) rfl (Option.some.inj hv8) (by decide) rfl (fun ls hl => ?_)
          refine lv_goto (tgt := 19) hx hb dX10_next_62 (by decide) ?_
          exact ih19 _ (Option.some.inj hf).symm H locs hP hS ls (lv_sub hl [1, 2, 3, 0] rfl) KE19_0
        refine lv_icmp_ne (tgt := 56) hx hb dX10_next_49 (by decide) (fun c9 => ?_) (fun c9 => ?_)
        · have hf := ifF c9 hf
          refine lv_ldc hx hb hown (hts _ q1205) dX10_next_56 ?_
          exact J58 1000000 y2 hf H locs hP hS ls (lv_sub hl [0, 1, 2, 3] rfl)
        · have hf := ifT c9 hf
          refine lv_iconst hx hb dX10_next_52 ic_0 ?_
          refine lv_goto (tgt := 58) hx hb dX10_next_53 (by decide) ?_
          exact J58 0 y2 hf H locs hP hS ls (lv_sub hl [0, 1, 2, 3] rfl)
    obtain ⟨ex19, hlp19, hf⟩ := bdP hf
    refine LP19 (0, (σ.2.2.1 1162)) ex19 hlp19 H locs hP hS ls (lv_sub hl [1, 2, 3, 0] rfl) ?_
    intro a10 hex19 H locs hP hS ls hl
    subst ex19
    refine lv_iconst hx hb dX10_next_65 ic_1 ?_
    refine lv_istore_n (lv' := [(3, .int 1), (0, .ref (ad 1448)), (1, .int x1), (2, .int x2)]) hx hb dX10_next_66 rfl hl (by decide) rfl (fun ls hl => ?_)
    have LP67 : ∀ (st67 : Int32 × (Nat → Int32)) (ex67 : ((Nat → Int32))), loop (xo_X10_next_p3_L67 (σ.1 2008) (σ.2.2.1 1170) nr (fun k => σ.1 (6000 + 16 * k + 2)) (fun k => σ.1 (6000 + 16 * k + 5)) (fun k => σ.1 (6000 + 16 * k + 6)) (fun k => σ.2.2.1 (4000 + 16 * k)) x2) st67 = some ex67 → ∀ (H : Heap) (locs : List Loc), PIC D clsA G dsc ad (sgX10_next_p3 σ (st67.2)) H → va_S A s.heap H locs → ∀ (ls : Array Slot), lv_has ls 7 [(0, .ref (ad 1448)), (1, .int x1), (2, .int x2), (3, .int (st67.1))] → (∀ (a41 : Nat → Int32), ex67 = a41 → ∀ (H : Heap) (locs : List Loc), PIC D clsA G dsc ad (sgX10_next_p3 σ a41) H → va_S A s.heap H locs → ∀ (ls : Array Slot), lv_has ls 7 [(0, .ref (ad 1448)), (1, .int x1), (2, .int x2)] → W p l e rmX10_next_p3 s m args below meth c0 H locs 0 0 Q (F0 m 201 ls [])) → W p l e rmX10_next_p3 s m args below meth c0 H locs 0 0 Q (F0 m 67 ls []) := by
      refine loop_P (fun st67 ex67 o67 hf ih67 hx67 => ?_)
      obtain ⟨y11, a12⟩ := st67
      intro H locs (hP : PIC D clsA G dsc ad (sgX10_next_p3 σ a12) H) hS ls (hl : lv_has ls 7 [(0, .ref (ad 1448)), (1, .int x1), (2, .int x2), (3, .int y11)]) KE67_0
      dsimp only [xo_X10_next_p3_L67] at hf
      refine lv_iload_n hx hb dX10_next_67 rfl (lv_at hl 3 rfl) ?_
      refine lv_if_eq (tgt := 201) hx hb dX10_next_68 (by decide) (fun c13 => ?_) (fun c13 => ?_)
      · have hf := ifT c13 hf
        exact KE67_0 _ (hx67 _ (Option.some.inj hf).symm).symm H locs hP hS ls (lv_sub hl [0, 1, 2] rfl)
      · have hf := ifF c13 hf
        refine lv_iconst hx hb dX10_next_71 ic_0 ?_
        refine lv_istore_n (lv' := [(3, .int 0), (0, .ref (ad 1448)), (1, .int x1), (2, .int x2)]) hx hb dX10_next_72 rfl hl (by decide) rfl (fun ls hl => ?_)
        refine lv_iconst hx hb dX10_next_73 ic_0 ?_
        refine lv_istore (lv' := [(4, .int 0), (3, .int 0), (0, .ref (ad 1448)), (1, .int x1), (2, .int x2)]) hx hb dX10_next_74 hl (by decide) rfl (fun ls hl => ?_)
        have LP76 : ∀ (st76 : Int32 × Int32 × (Nat → Int32)) (ex76 : (Int32 × (Nat → Int32))), loop (xo_X10_next_p3_L76 (σ.1 2008) (σ.2.2.1 1170) nr (fun k => σ.1 (6000 + 16 * k + 2)) (fun k => σ.1 (6000 + 16 * k + 5)) (fun k => σ.1 (6000 + 16 * k + 6)) (fun k => σ.2.2.1 (4000 + 16 * k)) x2) st76 = some ex76 → ∀ (H : Heap) (locs : List Loc), PIC D clsA G dsc ad (sgX10_next_p3 σ (st76.2.2)) H → va_S A s.heap H locs → ∀ (ls : Array Slot), lv_has ls 7 [(0, .ref (ad 1448)), (1, .int x1), (2, .int x2), (3, .int (st76.1)), (4, .int (st76.2.1))] → (∀ (y39 : Int32) (a40 : Nat → Int32), ex76 = (y39, a40) → ∀ (H : Heap) (locs : List Loc), PIC D clsA G dsc ad (sgX10_next_p3 σ a40) H → va_S A s.heap H locs → ∀ (ls : Array Slot), lv_has ls 7 [(0, .ref (ad 1448)), (1, .int x1), (2, .int x2), (3, .int y39)] → W p l e rmX10_next_p3 s m args below meth c0 H locs 0 0 Q (F0 m 198 ls [])) → W p l e rmX10_next_p3 s m args below meth c0 H locs 0 0 Q (F0 m 76 ls []) := by
          refine loop_P (fun st76 ex76 o76 hf ih76 hx76 => ?_)
          obtain ⟨y14, y15, a16⟩ := st76
          intro H locs (hP : PIC D clsA G dsc ad (sgX10_next_p3 σ a16) H) hS ls (hl : lv_has ls 7 [(0, .ref (ad 1448)), (1, .int x1), (2, .int x2), (3, .int y14), (4, .int y15)]) KE76_0
          dsimp only [xo_X10_next_p3_L76] at hf
          refine lv_iload hx hb dX10_next_76 (lv_at hl 4 rfl) ?_
          refine lv_aload_n hx hb dX10_next_78 rfl (lv_at hl 0 rfl) ?_
          refine gx_X10_3_1448 E hX hD hP dX10_next_79 ?_
          refine gx_X10_19_1000 E hX hD hP dX10_next_82 ?_
          refine gx_X10_57_2000 (v := (σ.1 2008)) E hX hD hP sgX10_next_p3_rzI2008 dX10_next_85 ?_
          refine lv_icmp_ge (tgt := 198) hx hb dX10_next_88 (by decide) (fun c17 => ?_) (fun c17 => ?_)
          · have hf := ifT c17 hf
            exact KE76_0 _ _ (hx76 _ (Option.some.inj hf).symm).symm H locs hP hS ls (lv_sub hl [0, 1, 2, 3] rfl)
          · have hf := ifF c17 hf
            refine lv_iconst hx hb dX10_next_91 ic_0 ?_
            refine lv_istore (lv' := [(5, .int 0), (0, .ref (ad 1448)), (1, .int x1), (2, .int x2), (3, .int y14), (4, .int y15)]) hx hb dX10_next_92 hl (by decide) rfl (fun ls hl => ?_)
            have LP94 : ∀ (st94 : Int32 × Int32 × (Nat → Int32)) (ex94 : (Int32 × (Nat → Int32))), loop (xo_X10_next_p3_L94 (σ.1 2008) (σ.2.2.1 1170) nr (fun k => σ.1 (6000 + 16 * k + 2)) (fun k => σ.1 (6000 + 16 * k + 5)) (fun k => σ.1 (6000 + 16 * k + 6)) (fun k => σ.2.2.1 (4000 + 16 * k)) x2 y15) st94 = some ex94 → ∀ (H : Heap) (locs : List Loc), PIC D clsA G dsc ad (sgX10_next_p3 σ (st94.2.2)) H → va_S A s.heap H locs → ∀ (ls : Array Slot), lv_has ls 7 [(0, .ref (ad 1448)), (1, .int x1), (2, .int x2), (3, .int (st94.1)), (4, .int y15), (5, .int (st94.2.1))] → (∀ (y36 : Int32) (a37 : Nat → Int32), ex94 = (y36, a37) → ∀ (H : Heap) (locs : List Loc), PIC D clsA G dsc ad (sgX10_next_p3 σ a37) H → va_S A s.heap H locs → ∀ (ls : Array Slot), lv_has ls 7 [(0, .ref (ad 1448)), (1, .int x1), (2, .int x2), (3, .int y36), (4, .int y15)] → W p l e rmX10_next_p3 s m args below meth c0 H locs 0 0 Q (F0 m 192 ls [])) → W p l e rmX10_next_p3 s m args below meth c0 H locs 0 0 Q (F0 m 94 ls []) := by
              refine loop_P (fun st94 ex94 o94 hf ih94 hx94 => ?_)
              obtain ⟨y18, y19, a20⟩ := st94
              intro H locs (hP : PIC D clsA G dsc ad (sgX10_next_p3 σ a20) H) hS ls (hl : lv_has ls 7 [(0, .ref (ad 1448)), (1, .int x1), (2, .int x2), (3, .int y18), (4, .int y15), (5, .int y19)]) KE94_0
              dsimp only [xo_X10_next_p3_L94] at hf
              refine lv_iload hx hb dX10_next_94 (lv_at hl 5 rfl) ?_
              refine lv_aload_n hx hb dX10_next_96 rfl (lv_at hl 0 rfl) ?_
              refine gx_X10_3_1448 E hX hD hP dX10_next_97 ?_
              refine gx_X10_19_1000 E hX hD hP dX10_next_100 ?_
              refine gx_X10_57_2000 (v := (σ.1 2008)) E hX hD hP sgX10_next_p3_rzI2008 dX10_next_103 ?_
              refine lv_icmp_ge (tgt := 192) hx hb dX10_next_106 (by decide) (fun c21 => ?_) (fun c21 => ?_)
              · have hf := ifT c21 hf
                exact KE94_0 _ _ (hx94 _ (Option.some.inj hf).symm).symm H locs hP hS ls (lv_sub hl [0, 1, 2, 3, 4] rfl)
              · have hf := ifF c21 hf
                refine lv_aload_n hx hb dX10_next_109 rfl (lv_at hl 0 rfl) ?_
                refine gx_X10_15_1448 E hX hD hP dX10_next_110 ?_
                refine lv_iload hx hb dX10_next_113 (lv_at hl 5 rfl) ?_
                obtain ⟨v22, hv22, hf⟩ := bdP hf
                refine p_iald hx hb hX.1 hP (hD.1 _ _ dX_1162) sgX10_next_p3_raI1162 hv22 dX10_next_115 ?_
                refine lv_ldc hx hb hown (hts _ q1205) dX10_next_116 ?_
                have J135 : ∀ (k23 : Int32), xo_X10_next_p3_J135 y15 y18 y19 a20 k23 = some o94 → ∀ (H : Heap) (locs : List Loc), PIC D clsA G dsc ad (sgX10_next_p3 σ a20) H → va_S A s.heap H locs → ∀ (ls : Array Slot), lv_has ls 7 [(0, .ref (ad 1448)), (1, .int x1), (2, .int x2), (3, .int y18), (4, .int y15), (5, .int y19)] → W p l e rmX10_next_p3 s m args below meth c0 H locs 0 0 Q (F0 m 135 ls [.int k23]) := by
                  intro k23 hf H locs hP hS ls hl
                  unfold xo_X10_next_p3_J135 at hf
                  refine lv_istore (lv' := [(6, .int k23), (0, .ref (ad 1448)), (1, .int x1), (2, .int x2), (3, .int y18), (4, .int y15), (5, .int y19)]) hx hb dX10_next_135 hl (by decide) rfl (fun ls hl => ?_)
                  refine lv_iload hx hb dX10_next_137 (lv_at hl 0 rfl) ?_
                  refine lv_ldc hx hb hown (hts _ q1205) dX10_next_139 ?_
                  have J186 : ∀ (y24 : Int32) (a25 : Nat → Int32), xo_X10_next_p3_J186 y19 y24 a25 = some o94 → ∀ (H : Heap) (locs : List Loc), PIC D clsA G dsc ad (sgX10_next_p3 σ a25) H → va_S A s.heap H locs → ∀ (ls : Array Slot), lv_has ls 7 [(0, .ref (ad 1448)), (1, .int x1), (2, .int x2), (3, .int y24), (4, .int y15), (5, .int y19)] → W p l e rmX10_next_p3 s m args below meth c0 H locs 0 0 Q (F0 m 186 ls []) := by
                    intro y24 a25 hf H locs hP hS ls hl
                    unfold xo_X10_next_p3_J186 at hf
                    obtain ⟨v26, hv26, hf⟩ := bdP hf
                    refine lv_iinc (v := v26) (lv' := [(5, .int v26), (0, .ref (ad 1448)), (1, .int x1), (2, .int x2), (3, .int y24), (4, .int y15)]) hx hb dX10_next_186 hl (k := 5) rfl (Option.some.inj hv26) (by decide) rfl (fun ls hl => ?_)
                    refine lv_goto (tgt := 94) hx hb dX10_next_189 (by decide) ?_
                    exact ih94 _ (Option.some.inj hf).symm H locs hP hS ls (lv_sub hl [1, 2, 3, 4, 5, 0] rfl) KE94_0
                  refine lv_icmp_eq (tgt := 186) hx hb dX10_next_141 (by decide) (fun c27 => ?_) (fun c27 => ?_)
                  · have hf := ifT c27 hf
                    exact J186 y18 a20 hf H locs hP hS ls (lv_sub hl [1, 2, 3, 4, 5, 6] rfl)
                  · have hf := ifF c27 hf
                    refine lv_aload_n hx hb dX10_next_144 rfl (lv_at hl 1 rfl) ?_
                    refine gx_X10_15_1448 E hX hD hP dX10_next_145 ?_
                    refine lv_iload hx hb dX10_next_148 (lv_at hl 6 rfl) ?_
                    obtain ⟨v28, hv28, hf⟩ := bdP hf
                    refine p_iald hx hb hX.1 hP (hD.1 _ _ dX_1162) sgX10_next_p3_raI1162 hv28 dX10_next_150 ?_
                    refine lv_iload hx hb dX10_next_151 (lv_at hl 0 rfl) ?_
                    refine lv_iadd hx hb dX10_next_153 ?_
                    refine lv_aload_n hx hb dX10_next_154 rfl (lv_at hl 1 rfl) ?_
                    refine gx_X10_15_1448 E hX hD hP dX10_next_155 ?_
                    refine lv_iload hx hb dX10_next_158 (lv_at hl 5 rfl) ?_
                    obtain ⟨v29, hv29, hf⟩ := bdP hf
                    refine p_iald hx hb hX.1 hP (hD.1 _ _ dX_1162) sgX10_next_p3_raI1162 hv29 dX10_next_160 ?_
                    refine lv_icmp_lt (tgt := 167) hx hb dX10_next_161 (by decide) (fun c30 => ?_) (fun c30 => ?_)
                    · have hf := ifT c30 hf
                      refine lv_aload_n hx hb dX10_next_167 rfl (lv_at hl 1 rfl) ?_
                      refine gx_X10_15_1448 E hX hD hP dX10_next_168 ?_
                      refine lv_iload hx hb dX10_next_171 (lv_at hl 5 rfl) ?_
                      refine lv_aload_n hx hb dX10_next_173 rfl (lv_at hl 1 rfl) ?_
                      refine gx_X10_15_1448 E hX hD hP dX10_next_174 ?_
                      refine lv_iload hx hb dX10_next_177 (lv_at hl 6 rfl) ?_
                      obtain ⟨v31, hv31, hf⟩ := bdP hf
                      refine p_iald hx hb hX.1 hP (hD.1 _ _ dX_1162) sgX10_next_p3_raI1162 hv31 dX10_next_179 ?_
                      refine lv_iload hx hb dX10_next_180 (lv_at hl 0 rfl) ?_
                      refine lv_iadd hx hb dX10_next_182 ?_
                      obtain ⟨a32, ha32, hf⟩ := bdP hf
                      refine p_iast hx hb hX.1 hP hS (hA _ (PA_c (hD.1 _ _ dX_1162))) (hD.1 _ _ dX_1162) sgX10_next_p3_raI1162 ha32 sgX10_next_p3_aI1162 dX10_next_183 (fun H locs hP hS => ?_)
                      refine lv_iconst hx hb dX10_next_184 ic_1 ?_
                      refine lv_istore_n (lv' := [(3, .int 1), (6, .int k23), (0, .ref (ad 1448)), (1, .int x1), (2, .int x2), (4, .int y15), (5, .int y19)]) hx hb dX10_next_185 rfl hl (by decide) rfl (fun ls hl => ?_)
                      exact J186 1 a32 hf H locs hP hS ls (lv_sub hl [2, 3, 4, 0, 5, 6] rfl)
                    · have hf := ifF c30 hf
                      refine lv_goto (tgt := 186) hx hb dX10_next_164 (by decide) ?_
                      exact J186 y18 a20 hf H locs hP hS ls (lv_sub hl [1, 2, 3, 4, 5, 6] rfl)
                refine lv_icmp_ne (tgt := 126) hx hb dX10_next_118 (by decide) (fun c33 => ?_) (fun c33 => ?_)
                · have hf := ifF c33 hf
                  refine lv_aload_n hx hb dX10_next_126 rfl (lv_at hl 0 rfl) ?_
                  refine lv_iload hx hb dX10_next_127 (lv_at hl 4 rfl) ?_
                  refine lv_iload hx hb dX10_next_129 (lv_at hl 5 rfl) ?_
                  refine lv_iload_n hx hb dX10_next_131 rfl (lv_at hl 2 rfl) ?_
                  obtain ⟨v34, u35, hf⟩ := bdP hf
                  refine cx_X10_60_X10_cost_p3 E hX hD hP hS hA (kxX10_cost_p3 l D G hD sgX10_next_p3_raI1170 rfl sgX10_next_p3_rpR2 sgX10_next_p3_rpR5 sgX10_next_p3_rpR6 sgX10_next_p3_rgG0 u35) ⟨rfl, rfl⟩ ⟨Nat.le_of_ble_eq_true rfl, Nat.le_of_ble_eq_true rfl⟩ ⟨Nat.zero_le _, Nat.zero_le _⟩ hl.1 (Nat.le_of_ble_eq_true rfl) dX10_next_132 (fun H locs hP hS => ?_)
                  exact J135 v34 hf H locs hP hS ls (lv_sub hl [0, 1, 2, 3, 4, 5] rfl)
                · have hf := ifT c33 hf
                  refine lv_ldc hx hb hown (hts _ q1205) dX10_next_121 ?_
                  refine lv_goto (tgt := 135) hx hb dX10_next_123 (by decide) ?_
                  exact J135 1000000 hf H locs hP hS ls (lv_sub hl [0, 1, 2, 3, 4, 5] rfl)
            obtain ⟨ex94, hlp94, hf⟩ := bdP hf
            refine LP94 (y14, 0, a16) ex94 hlp94 H locs hP hS ls (lv_sub hl [1, 2, 3, 4, 5, 0] rfl) ?_
            intro y36 a37 hex94 H locs hP hS ls hl
            subst ex94
            dsimp only at hf
            obtain ⟨v38, hv38, hf⟩ := bdP hf
            refine lv_iinc (v := v38) (lv' := [(4, .int v38), (0, .ref (ad 1448)), (1, .int x1), (2, .int x2), (3, .int y36)]) hx hb dX10_next_192 hl (k := 4) rfl (Option.some.inj hv38) (by decide) rfl (fun ls hl => ?_)
            refine lv_goto (tgt := 76) hx hb dX10_next_195 (by decide) ?_
            exact ih76 _ (Option.some.inj hf).symm H locs hP hS ls (lv_sub hl [1, 2, 3, 4, 0] rfl) KE76_0
        obtain ⟨ex76, hlp76, hf⟩ := bdP hf
        refine LP76 (0, 0, a12) ex76 hlp76 H locs hP hS ls (lv_sub hl [2, 3, 4, 1, 0] rfl) ?_
        intro y39 a40 hex76 H locs hP hS ls hl
        subst ex76
        dsimp only at hf
        refine lv_goto (tgt := 67) hx hb dX10_next_198 (by decide) ?_
        exact ih67 _ (Option.some.inj hf).symm H locs hP hS ls (lv_sub hl [0, 1, 2, 3] rfl) KE67_0
    obtain ⟨ex67, hlp67, hf⟩ := bdP hf
    refine LP67 (1, a10) ex67 hlp67 H locs hP hS ls (lv_sub hl [1, 2, 3, 0] rfl) ?_
    intro a41 hex67 H locs hP hS ls hl
    subst ex67
    refine lv_iconst hx hb dX10_next_201 ic_0 ?_
    refine lv_istore (lv' := [(4, .int 0), (0, .ref (ad 1448)), (1, .int x1), (2, .int x2)]) hx hb dX10_next_202 hl (by decide) rfl (fun ls hl => ?_)
    have LP204 : ∀ (st204 : Int32) (ex204 : (Int32) ⊕ (Unit)), loop (xo_X10_next_p3_L204 (σ.1 2008) (σ.2.2.1 1170) nr (fun k => σ.1 (6000 + 16 * k + 2)) (fun k => σ.1 (6000 + 16 * k + 5)) (fun k => σ.1 (6000 + 16 * k + 6)) (fun k => σ.2.2.1 (4000 + 16 * k)) x1 x2 a41) st204 = some ex204 → ∀ (H : Heap) (locs : List Loc), PIC D clsA G dsc ad (sgX10_next_p3 σ a41) H → va_S A s.heap H locs → ∀ (ls : Array Slot), lv_has ls 7 [(0, .ref (ad 1448)), (1, .int x1), (2, .int x2), (4, .int st204)] → (∀ (y57 : Int32), ex204 = (.inl y57) → ∀ (H : Heap) (locs : List Loc), PIC D clsA G dsc ad (sgX10_next_p3 σ a41) H → va_S A s.heap H locs → ∀ (ls : Array Slot), lv_has ls 7 [(4, .int y57)] → W p l e rmX10_next_p3 s m args below meth c0 H locs 0 0 Q (F0 m 280 ls [])) → (ex204 = (.inr ()) → ∀ (H : Heap) (locs : List Loc), PIC D clsA G dsc ad (sgX10_next_p3 σ a41) H → va_S A s.heap H locs → ∀ (ls : Array Slot), lv_has ls 7 [] → W p l e rmX10_next_p3 s m args below meth c0 H locs 0 0 Q (F0 m 289 ls [])) → W p l e rmX10_next_p3 s m args below meth c0 H locs 0 0 Q (F0 m 204 ls []) := by
      refine loop_P (fun st204 ex204 o204 hf ih204 hx204 => ?_)
      obtain ⟨y42, rfl⟩ : ∃ z, z = st204 := ⟨_, rfl⟩
      intro H locs (hP : PIC D clsA G dsc ad (sgX10_next_p3 σ a41) H) hS ls (hl : lv_has ls 7 [(0, .ref (ad 1448)), (1, .int x1), (2, .int x2), (4, .int y42)]) KE204_0 KE204_1
      dsimp only [xo_X10_next_p3_L204] at hf
      refine lv_iload hx hb dX10_next_204 (lv_at hl 3 rfl) ?_
      refine lv_aload_n hx hb dX10_next_206 rfl (lv_at hl 0 rfl) ?_
      refine gx_X10_3_1448 E hX hD hP dX10_next_207 ?_
      refine gx_X10_19_1000 E hX hD hP dX10_next_210 ?_
      refine gx_X10_57_2000 (v := (σ.1 2008)) E hX hD hP sgX10_next_p3_rzI2008 dX10_next_213 ?_
      refine lv_icmp_ge (tgt := 289) hx hb dX10_next_216 (by decide) (fun c43 => ?_) (fun c43 => ?_)
      · have hf := ifT c43 hf
        exact KE204_1  (hx204 _ (Option.some.inj hf).symm).symm H locs hP hS ls (lv_sub hl [] rfl)
      · have hf := ifF c43 hf
        refine lv_aload_n hx hb dX10_next_219 rfl (lv_at hl 0 rfl) ?_
        refine gx_X10_15_1448 E hX hD hP dX10_next_220 ?_
        refine lv_iload_n hx hb dX10_next_223 rfl (lv_at hl 1 rfl) ?_
        obtain ⟨v44, hv44, hf⟩ := bdP hf
        refine p_iald hx hb hX.1 hP (hD.1 _ _ dX_1162) sgX10_next_p3_raI1162 hv44 dX10_next_224 ?_
        refine lv_ldc hx hb hown (hts _ q1205) dX10_next_225 ?_
        refine lv_icmp_ge (tgt := 289) hx hb dX10_next_227 (by decide) (fun c45 => ?_) (fun c45 => ?_)
        · have hf := ifT c45 hf
          exact KE204_1  (hx204 _ (Option.some.inj hf).symm).symm H locs hP hS ls (lv_sub hl [] rfl)
        · have hf := ifF c45 hf
          refine lv_aload_n hx hb dX10_next_230 rfl (lv_at hl 0 rfl) ?_
          refine gx_X10_15_1448 E hX hD hP dX10_next_231 ?_
          refine lv_iload hx hb dX10_next_234 (lv_at hl 3 rfl) ?_
          obtain ⟨v46, hv46, hf⟩ := bdP hf
          refine p_iald hx hb hX.1 hP (hD.1 _ _ dX_1162) sgX10_next_p3_raI1162 hv46 dX10_next_236 ?_
          refine lv_ldc hx hb hown (hts _ q1205) dX10_next_237 ?_
          have J283 : xo_X10_next_p3_J283 y42 = some o204 → ∀ (H : Heap) (locs : List Loc), PIC D clsA G dsc ad (sgX10_next_p3 σ a41) H → va_S A s.heap H locs → ∀ (ls : Array Slot), lv_has ls 7 [(0, .ref (ad 1448)), (1, .int x1), (2, .int x2), (4, .int y42)] → W p l e rmX10_next_p3 s m args below meth c0 H locs 0 0 Q (F0 m 283 ls []) := by
            intro  hf H locs hP hS ls hl
            unfold xo_X10_next_p3_J283 at hf
            obtain ⟨v47, hv47, hf⟩ := bdP hf
            refine lv_iinc (v := v47) (lv' := [(4, .int v47), (0, .ref (ad 1448)), (1, .int x1), (2, .int x2)]) hx hb dX10_next_283 hl (k := 3) rfl (Option.some.inj hv47) (by decide) rfl (fun ls hl => ?_)
            refine lv_goto (tgt := 204) hx hb dX10_next_286 (by decide) ?_
            exact ih204 _ (Option.some.inj hf).symm H locs hP hS ls (lv_sub hl [1, 2, 3, 0] rfl) KE204_0 KE204_1
          refine lv_icmp_ge (tgt := 283) hx hb dX10_next_239 (by decide) (fun c48 => ?_) (fun c48 => ?_)
          · have hf := ifT c48 hf
            exact J283  hf H locs hP hS ls (lv_sub hl [0, 1, 2, 3] rfl)
          · have hf := ifF c48 hf
            refine lv_aload_n hx hb dX10_next_242 rfl (lv_at hl 0 rfl) ?_
            refine lv_iload_n hx hb dX10_next_243 rfl (lv_at hl 1 rfl) ?_
            refine lv_iload hx hb dX10_next_244 (lv_at hl 3 rfl) ?_
            refine lv_iload_n hx hb dX10_next_246 rfl (lv_at hl 2 rfl) ?_
            obtain ⟨v49, u50, hf⟩ := bdP hf
            refine cx_X10_60_X10_cost_p3 E hX hD hP hS hA (kxX10_cost_p3 l D G hD sgX10_next_p3_raI1170 rfl sgX10_next_p3_rpR2 sgX10_next_p3_rpR5 sgX10_next_p3_rpR6 sgX10_next_p3_rgG0 u50) ⟨rfl, rfl⟩ ⟨Nat.le_of_ble_eq_true rfl, Nat.le_of_ble_eq_true rfl⟩ ⟨Nat.zero_le _, Nat.zero_le _⟩ hl.1 (Nat.le_of_ble_eq_true rfl) dX10_next_247 (fun H locs hP hS => ?_)
            refine lv_ldc hx hb hown (hts _ q1205) dX10_next_250 ?_
            refine lv_icmp_ge (tgt := 283) hx hb dX10_next_252 (by decide) (fun c51 => ?_) (fun c51 => ?_)
            · have hf := ifT c51 hf
              exact J283  hf H locs hP hS ls (lv_sub hl [0, 1, 2, 3] rfl)
            · have hf := ifF c51 hf
              refine lv_aload_n hx hb dX10_next_255 rfl (lv_at hl 0 rfl) ?_
              refine lv_iload_n hx hb dX10_next_256 rfl (lv_at hl 1 rfl) ?_
              refine lv_iload hx hb dX10_next_257 (lv_at hl 3 rfl) ?_
              refine lv_iload_n hx hb dX10_next_259 rfl (lv_at hl 2 rfl) ?_
              obtain ⟨v52, u53, hf⟩ := bdP hf
              refine cx_X10_60_X10_cost_p3 E hX hD hP hS hA (kxX10_cost_p3 l D G hD sgX10_next_p3_raI1170 rfl sgX10_next_p3_rpR2 sgX10_next_p3_rpR5 sgX10_next_p3_rpR6 sgX10_next_p3_rgG0 u53) ⟨rfl, rfl⟩ ⟨Nat.le_of_ble_eq_true rfl, Nat.le_of_ble_eq_true rfl⟩ ⟨Nat.zero_le _, Nat.zero_le _⟩ hl.1 (Nat.le_of_ble_eq_true rfl) dX10_next_260 (fun H locs hP hS => ?_)
              refine lv_aload_n hx hb dX10_next_263 rfl (lv_at hl 0 rfl) ?_
              refine gx_X10_15_1448 E hX hD hP dX10_next_264 ?_
              refine lv_iload hx hb dX10_next_267 (lv_at hl 3 rfl) ?_
              obtain ⟨v54, hv54, hf⟩ := bdP hf
              refine p_iald hx hb hX.1 hP (hD.1 _ _ dX_1162) sgX10_next_p3_raI1162 hv54 dX10_next_269 ?_
              refine lv_iadd hx hb dX10_next_270 ?_
              refine lv_aload_n hx hb dX10_next_271 rfl (lv_at hl 0 rfl) ?_
              refine gx_X10_15_1448 E hX hD hP dX10_next_272 ?_
              refine lv_iload_n hx hb dX10_next_275 rfl (lv_at hl 1 rfl) ?_
              obtain ⟨v55, hv55, hf⟩ := bdP hf
              refine p_iald hx hb hX.1 hP (hD.1 _ _ dX_1162) sgX10_next_p3_raI1162 hv55 dX10_next_276 ?_
              refine lv_icmp_ne (tgt := 283) hx hb dX10_next_277 (by decide) (fun c56 => ?_) (fun c56 => ?_)
              · have hf := ifF c56 hf
                exact J283  hf H locs hP hS ls (lv_sub hl [0, 1, 2, 3] rfl)
              · have hf := ifT c56 hf
                exact KE204_0 _ (hx204 _ (Option.some.inj hf).symm).symm H locs hP hS ls (lv_sub hl [3] rfl)
    obtain ⟨ex204, hlp204, hf⟩ := bdP hf
    refine LP204 0 ex204 hlp204 H locs hP hS ls (lv_sub hl [1, 2, 3, 0] rfl) ?_ ?_
    · intro y57 hex204 H locs hP hS ls hl
      subst ex204
      dsimp only [sE_l, sE_r] at hf
      refine lv_iload hx hb dX10_next_280 (lv_at hl 0 rfl) ?_
      cases hf
      rw [hQ]; exact g_iret hx hb hr hlk hP hS dX10_next_282
    · intro  hex204 H locs hP hS ls hl
      subst ex204
      dsimp only [sE_l, sE_r] at hf
      refine lv_bipush hx hb dX10_next_289 bp_m2 ?_
      cases hf
      rw [hQ]; exact g_iret hx hb hr hlk hP hS dX10_next_291
  · have hf := ifT c1 hf
    refine lv_bipush hx hb dX10_next_14 bp_m2 ?_
    cases hf
    rw [hQ]; exact g_iret hx hb hr hlk hP hS dX10_next_16
theorem kxX10_next_p3 (l : Launch) (D : va_G) (G : Nat → ClassId) {dsc : Nat → Option Dsc} {ad : Nat → Nat} {σ : Sto} {nr nw nu : Nat} (hD : XD dsc nr nw nu) {x1 : Int32} {x2 : Int32} {r_ : Int32} {w_aI1162 : Nat → Int32} {z_L_places : Int32} (e_zI2008 : σ.1 2008 = z_L_places) {z_L_to : Int32} (e_zI2013 : σ.1 2013 = z_L_to) {a_p3_far : Nat → Int32} (e_aI1162 : σ.2.2.1 1162 = a_p3_far) {a_UNIT : Nat → Int32} (e_aI1170 : σ.2.2.1 1170 = a_UNIT) {n_r : Nat} (e_nN0 : nr = n_r) {p_road_hours : Nat → Int32} (e_pR2 : (fun k => σ.1 (6000 + 16 * k + 2)) = p_road_hours) {p_road_wait : Nat → Int32} (e_pR5 : (fun k => σ.1 (6000 + 16 * k + 5)) = p_road_wait) {p_road_number : Nat → Int32} (e_pR6 : (fun k => σ.1 (6000 + 16 * k + 6)) = p_road_number) {g_grid : Nat → Nat → Int32} (e_gG0 : (fun k => σ.2.2.1 (4000 + 16 * k)) = g_grid) (hf : xo_X10_next_p3 z_L_places z_L_to a_p3_far a_UNIT n_r p_road_hours p_road_wait p_road_number g_grid x1 x2 = some (r_, w_aI1162)) : CtG l D G dsc ad yX10_next (ws_ yX10_next cX10_next 7 (Option.some Jvm.ClassFile.FieldType.int)) rmX10_next_p3 [.ref (ad 1448), .int x1, .int x2] σ (some (.int r_)) (aI σ 1162 w_aI1162) := by
  subst e_zI2008
  subst e_zI2013
  subst e_aI1162
  subst e_aI1170
  subst e_nN0
  subst e_pR2
  subst e_pR5
  subst e_pR6
  subst e_gG0
  exact p_ctG (by decide +kernel) (Nat.le_of_ble_eq_true rfl) (fun p e s m below meth c0 ls A E hP hX hA hS hl => wkX10_next_p3 E hX hD hA hf rfl hP hS hl)
theorem gx_X9_3_1448 (E : EN p s m args meth c0 RX9 cc nL ret) (hX : KX D G ad A s s.heap) (hD : XD dsc nr nw nu) (hP : PIC D clsA G dsc ad σ H) (hdg : decode cc pc = .ok (.getfield 3, 3)) (kk : W p l e R s m args below meth c0 H locs cells slots Q (F0 m (pc + 3) ls (.ref (ad 1000) :: rest))) : W p l e R s m args below meth c0 H locs cells slots Q (F0 m pc ls (.ref (ad 1448) :: rest)) :=
  p_get E.1.1 E.1.2.1 E.1.2.2.2.2 in_X13 E.1.2.2.2.1 hX.1 hP (hD.1 _ _ dX_1448) rfl 2 (by decide) (E.1.2.2.2.2 _ q435) (fun _ h => h) rfl rfl hdg kk
theorem cx_X9_32_X10_next_p3 {rm : Room} {σ1 : Sto} {x1 : Int32} {x2 : Int32} {r : Int32} (E : EN p s m args meth c0 RX9 cc nL ret) (hX : KX D G ad A s s.heap) (hD : XD dsc nr nw nu) (hP : PIC D clsA G dsc ad σ H) (hS : va_S A s.heap H locs) (hA : ∀ q, PA dsc ad s.heap.size q → A q) (hM : CtG l D G dsc ad yX10_next (ws_ yX10_next cX10_next 7 (Option.some Jvm.ClassFile.FieldType.int)) rm [.ref (ad 1448), .int x1, .int x2] σ (some (.int r)) σ1) (hz : rm.cells = 0 ∧ rm.slots = 0) (hR : rm.frames + 1 ≤ R.frames ∧ 8 + (7 + 11) + rm.locals ≤ R.locals) (hcs : cells ≤ R.cells ∧ slots ≤ R.slots) (hsz : ls.size = nL) (hW : (rest.map fun v => v.category).sum ≤ 8) (hdg : decode cc pc = .ok (.invokevirtual 32, 3)) (kk : ∀ (H1 : Heap) (locs1 : List Loc), PIC D clsA G dsc ad σ1 H1 → va_S A s.heap H1 locs1 → W p l e R s m args below meth c0 H1 locs1 cells slots Q (F0 m (pc + 3) ls (.int r :: rest))) : W p l e R s m args below meth c0 H locs cells slots Q (F0 m pc ls (.int x2 :: .int x1 :: .ref (ad 1448) :: rest)) :=
  p_gU (As := [.int x1, .int x2]) (rest := rest) E.1 hX hP hS hA hM (cw_any (owner := "ShutPasses$Plan") (x := ⟨"ShutPasses$Plan", "next", "(II)I"⟩) (y := yX10_next) (C := "ShutPasses$Hope") (index := 32) (own := RX9) 2 E.1.2.2.2.2 (lw_meth q1204) rfl hz.1 hz.2 (E.1.2.2.2.2 _ q1288) (E.1.2.2.2.2 _ q1290) (va_Decl.abs (hX.2.1.1 _ q1289 rfl)) (E.1.2.2.2.2 _ q1311) (E.1.2.2.2.2 _ q1203) (E.1.2.2.2.2 _ q136) (by decide +kernel) hR) (hD.1 _ _ dX_1448) rfl rfl rfl hsz rfl hW hdg hcs kk
/-! X9_hours_p3 (I)I -/
def sgX9_hours_p3 (σ : Sto) (w0 : Nat → Int32) : Sto := aI σ 1162 w0
theorem sgX9_hours_p3_self (σ : Sto) : sgX9_hours_p3 σ (σ.2.2.1 1162) = σ := by
  unfold sgX9_hours_p3
  simp only [zI_self, zL_self, aI_self, aL_self]
theorem sgX9_hours_p3_aI1162 {σ : Sto} {w0 : Nat → Int32} {g : Nat → Int32} : aI (sgX9_hours_p3 σ w0) 1162 g = sgX9_hours_p3 σ g := aI_aI _ 1162 _ _
theorem sgX9_hours_p3_rzI2008 {σ : Sto} {w0 : Nat → Int32} : (sgX9_hours_p3 σ w0).1 2008 = σ.1 2008 := rfl
theorem sgX9_hours_p3_rzI2012 {σ : Sto} {w0 : Nat → Int32} : (sgX9_hours_p3 σ w0).1 2012 = σ.1 2012 := rfl
theorem sgX9_hours_p3_rzI2013 {σ : Sto} {w0 : Nat → Int32} : (sgX9_hours_p3 σ w0).1 2013 = σ.1 2013 := rfl
theorem sgX9_hours_p3_rzI2027 {σ : Sto} {w0 : Nat → Int32} : (sgX9_hours_p3 σ w0).1 2027 = σ.1 2027 := rfl
theorem sgX9_hours_p3_rzI2032 {σ : Sto} {w0 : Nat → Int32} : (sgX9_hours_p3 σ w0).1 2032 = σ.1 2032 := rfl
theorem sgX9_hours_p3_raI1162 {σ : Sto} {w0 : Nat → Int32} : (sgX9_hours_p3 σ w0).2.2.1 1162 = w0 := rfl
theorem sgX9_hours_p3_raI1170 {σ : Sto} {w0 : Nat → Int32} : (sgX9_hours_p3 σ w0).2.2.1 1170 = σ.2.2.1 1170 := rfl
theorem sgX9_hours_p3_raI2037 {σ : Sto} {w0 : Nat → Int32} : (sgX9_hours_p3 σ w0).2.2.1 2037 = σ.2.2.1 2037 := rfl
theorem sgX9_hours_p3_raI2043 {σ : Sto} {w0 : Nat → Int32} : (sgX9_hours_p3 σ w0).2.2.1 2043 = σ.2.2.1 2043 := rfl
theorem sgX9_hours_p3_rpR2 {σ : Sto} {w0 : Nat → Int32} : (fun k => (sgX9_hours_p3 σ w0).1 (6000 + 16 * k + 2)) = (fun k => σ.1 (6000 + 16 * k + 2)) := by
  funext k
  unfold sgX9_hours_p3
  dsimp only [zI, zL, aI, aL]
  repeat rw [if_neg (by omega)]
theorem sgX9_hours_p3_rpR5 {σ : Sto} {w0 : Nat → Int32} : (fun k => (sgX9_hours_p3 σ w0).1 (6000 + 16 * k + 5)) = (fun k => σ.1 (6000 + 16 * k + 5)) := by
  funext k
  unfold sgX9_hours_p3
  dsimp only [zI, zL, aI, aL]
  repeat rw [if_neg (by omega)]
theorem sgX9_hours_p3_rpR6 {σ : Sto} {w0 : Nat → Int32} : (fun k => (sgX9_hours_p3 σ w0).1 (6000 + 16 * k + 6)) = (fun k => σ.1 (6000 + 16 * k + 6)) := by
  funext k
  unfold sgX9_hours_p3
  dsimp only [zI, zL, aI, aL]
  repeat rw [if_neg (by omega)]
theorem sgX9_hours_p3_rpW1 {σ : Sto} {w0 : Nat → Int32} : (fun k => (sgX9_hours_p3 σ w0).1 (8000 + 16 * k + 1)) = (fun k => σ.1 (8000 + 16 * k + 1)) := by
  funext k
  unfold sgX9_hours_p3
  dsimp only [zI, zL, aI, aL]
  repeat rw [if_neg (by omega)]
theorem sgX9_hours_p3_rpW2 {σ : Sto} {w0 : Nat → Int32} : (fun k => (sgX9_hours_p3 σ w0).1 (8000 + 16 * k + 2)) = (fun k => σ.1 (8000 + 16 * k + 2)) := by
  funext k
  unfold sgX9_hours_p3
  dsimp only [zI, zL, aI, aL]
  repeat rw [if_neg (by omega)]
theorem sgX9_hours_p3_rgG0 {σ : Sto} {w0 : Nat → Int32} : (fun k => (sgX9_hours_p3 σ w0).2.2.1 (4000 + 16 * k)) = (fun k => σ.2.2.1 (4000 + 16 * k)) := by
  funext k
  unfold sgX9_hours_p3
  dsimp only [zI, zL, aI, aL]
  repeat rw [if_neg (by omega)]
abbrev rmX9_hours_p3 : Room := { frames := 4, cells := 0, slots := 0, locals := 96 }
set_option maxHeartbeats 4000000 in
theorem wkX9_hours_p3 {x1 : Int32} {r_ : Int32} {w_aI1162 : Nat → Int32} (E : EN p s m args meth c0 RX9 cX9_hours 9 (Option.some Jvm.ClassFile.FieldType.int)) (hX : KX D G ad A s s.heap) (hD : XD dsc nr nw nu) (hA : ∀ q, PA dsc ad s.heap.size q → A q) (hf : xo_X9_hours_p3 (σ.1 2008) (σ.1 2012) (σ.1 2013) (σ.1 2027) (σ.1 2032) (σ.2.2.1 1162) (σ.2.2.1 1170) (σ.2.2.1 2037) (σ.2.2.1 2043) nr nw (fun k => σ.1 (6000 + 16 * k + 2)) (fun k => σ.1 (6000 + 16 * k + 5)) (fun k => σ.1 (6000 + 16 * k + 6)) (fun k => σ.1 (8000 + 16 * k + 1)) (fun k => σ.1 (8000 + 16 * k + 2)) (fun k => σ.2.2.1 (4000 + 16 * k)) x1 = some (r_, w_aI1162)) (hQ : Q = MQ below (va_G1 (some (.int r_)) (fun t => PIC D clsA G dsc ad (sgX9_hours_p3 σ w_aI1162) t.heap) A) args s 0 0 A) (hP : PIC D clsA G dsc ad σ H) (hS : va_S A s.heap H locs) (hl : lv_has ls 9 [(0, .ref (ad 1448)), (1, .int x1)]) : W p l e rmX9_hours_p3 s m args below meth c0 H locs 0 0 Q (F0 m 0 ls []) := by
  obtain ⟨⟨hx, hb, hml, hown, hts⟩, hr, hlk⟩ := id E
  have hP := hP.to (sgX9_hours_p3_self σ).symm
  unfold xo_X9_hours_p3 at hf
  refine lv_aload_n hx hb dX9_hours_0 rfl (lv_at hl 0 rfl) ?_
  refine gx_X9_3_1448 E hX hD hP dX9_hours_1 ?_
  refine gx_X9_15_1000 E hX hD hP dX9_hours_4 ?_
  refine gx_X9_19_2000 (v := (σ.1 2012)) E hX hD hP sgX9_hours_p3_rzI2012 dX9_hours_7 ?_
  refine lv_istore_n (lv' := [(2, .int (σ.1 2012)), (0, .ref (ad 1448)), (1, .int x1)]) hx hb dX9_hours_10 rfl hl (by decide) rfl (fun ls hl => ?_)
  refine lv_aload_n hx hb dX9_hours_11 rfl (lv_at hl 1 rfl) ?_
  refine gx_X9_3_1448 E hX hD hP dX9_hours_12 ?_
  refine lv_iload_n hx hb dX9_hours_15 rfl (lv_at hl 0 rfl) ?_
  refine lv_iconst hx hb dX9_hours_16 ic_0 ?_
  refine lv_iload_n hx hb dX9_hours_17 rfl (lv_at hl 2 rfl) ?_
  obtain ⟨v1, u2, hf⟩ := bdP hf
  refine cx_X9_25_X1_seeing E hX hD hP hS hA (kxX1_seeing l D G hD sgX9_hours_p3_rzI2027 sgX9_hours_p3_raI1170 sgX9_hours_p3_raI2043 u2) ⟨rfl, rfl⟩ ⟨Nat.le_of_ble_eq_true rfl, Nat.le_of_ble_eq_true rfl⟩ ⟨Nat.zero_le _, Nat.zero_le _⟩ hl.1 (Nat.le_of_ble_eq_true rfl) dX9_hours_18 (fun H locs hP hS => ?_)
  refine lv_istore_n (lv' := [(3, .int v1), (2, .int (σ.1 2012)), (0, .ref (ad 1448)), (1, .int x1)]) hx hb dX9_hours_21 rfl hl (by decide) rfl (fun ls hl => ?_)
  refine lv_iconst hx hb dX9_hours_22 ic_0 ?_
  refine lv_istore (lv' := [(4, .int 0), (3, .int v1), (2, .int (σ.1 2012)), (0, .ref (ad 1448)), (1, .int x1)]) hx hb dX9_hours_23 hl (by decide) rfl (fun ls hl => ?_)
  refine lv_iconst hx hb dX9_hours_25 ic_0 ?_
  refine lv_istore (lv' := [(5, .int 0), (4, .int 0), (3, .int v1), (2, .int (σ.1 2012)), (0, .ref (ad 1448)), (1, .int x1)]) hx hb dX9_hours_26 hl (by decide) rfl (fun ls hl => ?_)
  have LP28 : ∀ (st28 : Int32 × Int32 × Int32 × Int32 × (Nat → Int32)) (ex28 : ((Nat → Int32)) ⊕ (Int32 × (Nat → Int32))), loop (xo_X9_hours_p3_L28 (σ.1 2008) (σ.1 2013) (σ.1 2027) (σ.1 2032) (σ.2.2.1 1170) (σ.2.2.1 2037) (σ.2.2.1 2043) nr nw (fun k => σ.1 (6000 + 16 * k + 2)) (fun k => σ.1 (6000 + 16 * k + 5)) (fun k => σ.1 (6000 + 16 * k + 6)) (fun k => σ.1 (8000 + 16 * k + 1)) (fun k => σ.1 (8000 + 16 * k + 2)) (fun k => σ.2.2.1 (4000 + 16 * k)) x1) st28 = some ex28 → ∀ (H : Heap) (locs : List Loc), PIC D clsA G dsc ad (sgX9_hours_p3 σ (st28.2.2.2.2)) H → va_S A s.heap H locs → ∀ (ls : Array Slot), lv_has ls 9 [(0, .ref (ad 1448)), (1, .int x1), (2, .int (st28.1)), (3, .int (st28.2.1)), (4, .int (st28.2.2.1)), (5, .int (st28.2.2.2.1))] → (∀ (a34 : Nat → Int32), ex28 = (.inl a34) → ∀ (H : Heap) (locs : List Loc), PIC D clsA G dsc ad (sgX9_hours_p3 σ a34) H → va_S A s.heap H locs → ∀ (ls : Array Slot), lv_has ls 9 [] → W p l e rmX9_hours_p3 s m args below meth c0 H locs 0 0 Q (F0 m 64 ls [])) → (∀ (y35 : Int32) (a36 : Nat → Int32), ex28 = (.inr (y35, a36)) → ∀ (H : Heap) (locs : List Loc), PIC D clsA G dsc ad (sgX9_hours_p3 σ a36) H → va_S A s.heap H locs → ∀ (ls : Array Slot), lv_has ls 9 [(4, .int y35)] → W p l e rmX9_hours_p3 s m args below meth c0 H locs 0 0 Q (F0 m 186 ls [])) → W p l e rmX9_hours_p3 s m args below meth c0 H locs 0 0 Q (F0 m 28 ls []) := by
    refine loop_P (fun st28 ex28 o28 hf ih28 hx28 => ?_)
    obtain ⟨y3, y4, y5, y6, a7⟩ := st28
    intro H locs (hP : PIC D clsA G dsc ad (sgX9_hours_p3 σ a7) H) hS ls (hl : lv_has ls 9 [(0, .ref (ad 1448)), (1, .int x1), (2, .int y3), (3, .int y4), (4, .int y5), (5, .int y6)]) KE28_0 KE28_1
    dsimp only [xo_X9_hours_p3_L28] at hf
    refine lv_iload_n hx hb dX9_hours_28 rfl (lv_at hl 2 rfl) ?_
    refine lv_aload_n hx hb dX9_hours_29 rfl (lv_at hl 0 rfl) ?_
    refine gx_X9_3_1448 E hX hD hP dX9_hours_30 ?_
    refine gx_X9_15_1000 E hX hD hP dX9_hours_33 ?_
    refine gx_X9_29_2000 (v := (σ.1 2013)) E hX hD hP sgX9_hours_p3_rzI2013 dX9_hours_36 ?_
    refine lv_icmp_eq (tgt := 186) hx hb dX9_hours_39 (by decide) (fun c8 => ?_) (fun c8 => ?_)
    · have hf := ifT c8 hf
      exact KE28_1 _ _ (hx28 _ (Option.some.inj hf).symm).symm H locs hP hS ls (lv_sub hl [4] rfl)
    · have hf := ifF c8 hf
      refine lv_aload_n hx hb dX9_hours_42 rfl (lv_at hl 0 rfl) ?_
      refine lv_iload_n hx hb dX9_hours_43 rfl (lv_at hl 2 rfl) ?_
      refine lv_iload_n hx hb dX9_hours_44 rfl (lv_at hl 3 rfl) ?_
      obtain ⟨⟨v9, a10⟩, u11, hf⟩ := bdP hf
      dsimp only at hf
      refine cx_X9_32_X10_next_p3 E hX hD hP hS hA (kxX10_next_p3 l D G hD sgX9_hours_p3_rzI2008 sgX9_hours_p3_rzI2013 sgX9_hours_p3_raI1162 sgX9_hours_p3_raI1170 rfl sgX9_hours_p3_rpR2 sgX9_hours_p3_rpR5 sgX9_hours_p3_rpR6 sgX9_hours_p3_rgG0 u11) ⟨rfl, rfl⟩ ⟨Nat.le_of_ble_eq_true rfl, Nat.le_of_ble_eq_true rfl⟩ ⟨Nat.zero_le _, Nat.zero_le _⟩ hl.1 (Nat.le_of_ble_eq_true rfl) dX9_hours_45 (fun H locs hP hS => ?_)
      rw [sgX9_hours_p3_aI1162] at hP
      refine lv_istore (lv' := [(6, .int v9), (0, .ref (ad 1448)), (1, .int x1), (2, .int y3), (3, .int y4), (4, .int y5), (5, .int y6)]) hx hb dX9_hours_48 hl (by decide) rfl (fun ls hl => ?_)
      refine lv_iload hx hb dX9_hours_50 (lv_at hl 0 rfl) ?_
      refine lv_bipush hx hb dX9_hours_52 bp_m2 ?_
      refine lv_icmp_eq (tgt := 64) hx hb dX9_hours_54 (by decide) (fun c12 => ?_) (fun c12 => ?_)
      · have hf := ifT c12 hf
        exact KE28_0 _ (hx28 _ (Option.some.inj hf).symm).symm H locs hP hS ls (lv_sub hl [] rfl)
      · have hf := ifF c12 hf
        refine lv_iload hx hb dX9_hours_57 (lv_at hl 6 rfl) ?_
        refine lv_bipush hx hb dX9_hours_59 bp_10 ?_
        refine lv_icmp_le (tgt := 67) hx hb dX9_hours_61 (by decide) (fun c13 => ?_) (fun c13 => ?_)
        · have hf := ifT c13 hf
          refine lv_iload_n hx hb dX9_hours_67 rfl (lv_at hl 4 rfl) ?_
          refine lv_istore (lv' := [(7, .int y4), (6, .int v9), (0, .ref (ad 1448)), (1, .int x1), (2, .int y3), (3, .int y4), (4, .int y5), (5, .int y6)]) hx hb dX9_hours_68 hl (by decide) rfl (fun ls hl => ?_)
          refine lv_iload hx hb dX9_hours_70 (lv_at hl 1 rfl) ?_
          refine lv_bipush hx hb dX9_hours_72 bp_100 ?_
          have J167 : ∀ (y14 : Int32) (y15 : Int32) (y16 : Int32), xo_X9_hours_p3_J167 y4 y6 a10 y14 y15 y16 = some o28 → ∀ (H : Heap) (locs : List Loc), PIC D clsA G dsc ad (sgX9_hours_p3 σ a10) H → va_S A s.heap H locs → ∀ (ls : Array Slot), lv_has ls 9 [(0, .ref (ad 1448)), (1, .int x1), (2, .int y14), (3, .int y15), (4, .int y16), (5, .int y6), (7, .int y4)] → W p l e rmX9_hours_p3 s m args below meth c0 H locs 0 0 Q (F0 m 167 ls []) := by
            intro y14 y15 y16 hf H locs hP hS ls hl
            unfold xo_X9_hours_p3_J167 at hf
            refine lv_iload_n hx hb dX9_hours_167 rfl (lv_at hl 3 rfl) ?_
            refine lv_iload hx hb dX9_hours_168 (lv_at hl 6 rfl) ?_
            have J181 : ∀ (k17 : Int32), xo_X9_hours_p3_J181 a10 y14 y15 y16 k17 = some o28 → ∀ (H : Heap) (locs : List Loc), PIC D clsA G dsc ad (sgX9_hours_p3 σ a10) H → va_S A s.heap H locs → ∀ (ls : Array Slot), lv_has ls 9 [(0, .ref (ad 1448)), (1, .int x1), (2, .int y14), (3, .int y15), (4, .int y16)] → W p l e rmX9_hours_p3 s m args below meth c0 H locs 0 0 Q (F0 m 181 ls [.int k17]) := by
              intro k17 hf H locs hP hS ls hl
              unfold xo_X9_hours_p3_J181 at hf
              refine lv_istore (lv' := [(5, .int k17), (0, .ref (ad 1448)), (1, .int x1), (2, .int y14), (3, .int y15), (4, .int y16)]) hx hb dX9_hours_181 hl (by decide) rfl (fun ls hl => ?_)
              refine lv_goto (tgt := 28) hx hb dX9_hours_183 (by decide) ?_
              exact ih28 _ (Option.some.inj hf).symm H locs hP hS ls (lv_sub hl [1, 2, 3, 4, 5, 0] rfl) KE28_0 KE28_1
            refine lv_icmp_ne (tgt := 180) hx hb dX9_hours_170 (by decide) (fun c18 => ?_) (fun c18 => ?_)
            · have hf := ifF c18 hf
              refine lv_iconst hx hb dX9_hours_180 ic_0 ?_
              exact J181 0 hf H locs hP hS ls (lv_sub hl [0, 1, 2, 3, 4] rfl)
            · have hf := ifT c18 hf
              refine lv_iload hx hb dX9_hours_173 (lv_at hl 5 rfl) ?_
              refine lv_iconst hx hb dX9_hours_175 ic_1 ?_
              refine lv_iadd hx hb dX9_hours_176 ?_
              refine lv_goto (tgt := 181) hx hb dX9_hours_177 (by decide) ?_
              exact J181 (y6 + 1) hf H locs hP hS ls (lv_sub hl [0, 1, 2, 3, 4] rfl)
          refine lv_icmp_lt (tgt := 134) hx hb dX9_hours_74 (by decide) (fun c19 => ?_) (fun c19 => ?_)
          · have hf := ifT c19 hf
            refine lv_iload hx hb dX9_hours_134 (lv_at hl 6 rfl) ?_
            refine lv_aload_n hx hb dX9_hours_136 rfl (lv_at hl 2 rfl) ?_
            refine gx_X9_3_1448 E hX hD hP dX9_hours_137 ?_
            refine gx_X9_15_1000 E hX hD hP dX9_hours_140 ?_
            refine lv_iload_n hx hb dX9_hours_143 rfl (lv_at hl 4 rfl) ?_
            refine lv_iload hx hb dX9_hours_144 (lv_at hl 1 rfl) ?_
            refine lv_iload_n hx hb dX9_hours_146 rfl (lv_at hl 5 rfl) ?_
            obtain ⟨v20, u21, hf⟩ := bdP hf
            refine cx_X9_57_X3_cost E hX hD hP hS hA (kxX3_cost l D G hD sgX9_hours_p3_raI1170 rfl sgX9_hours_p3_rpR2 sgX9_hours_p3_rpR5 sgX9_hours_p3_rpR6 sgX9_hours_p3_rgG0 u21) ⟨rfl, rfl⟩ ⟨Nat.le_of_ble_eq_true rfl, Nat.le_of_ble_eq_true rfl⟩ ⟨Nat.zero_le _, Nat.zero_le _⟩ hl.1 (Nat.le_of_ble_eq_true rfl) dX9_hours_147 (fun H locs hP hS => ?_)
            refine lv_iadd hx hb dX9_hours_150 ?_
            obtain ⟨v22, hv22, hf⟩ := bdP hf
            refine nm_i (Option.some.inj hv22) ?_
            refine lv_istore (lv' := [(4, .int v22), (7, .int y4), (6, .int v9), (0, .ref (ad 1448)), (1, .int x1), (2, .int y3), (3, .int y4), (5, .int y6)]) hx hb dX9_hours_151 hl (by decide) rfl (fun ls hl => ?_)
            refine lv_iload hx hb dX9_hours_153 (lv_at hl 2 rfl) ?_
            refine lv_istore_n (lv' := [(2, .int v9), (4, .int v22), (7, .int y4), (6, .int v9), (0, .ref (ad 1448)), (1, .int x1), (3, .int y4), (5, .int y6)]) hx hb dX9_hours_155 rfl hl (by decide) rfl (fun ls hl => ?_)
            refine lv_aload_n hx hb dX9_hours_156 rfl (lv_at hl 4 rfl) ?_
            refine gx_X9_3_1448 E hX hD hP dX9_hours_157 ?_
            refine lv_iload_n hx hb dX9_hours_160 rfl (lv_at hl 0 rfl) ?_
            refine lv_iload_n hx hb dX9_hours_161 rfl (lv_at hl 6 rfl) ?_
            refine lv_iload_n hx hb dX9_hours_162 rfl (lv_at hl 5 rfl) ?_
            obtain ⟨v23, u24, hf⟩ := bdP hf
            refine cx_X9_25_X1_seeing E hX hD hP hS hA (kxX1_seeing l D G hD sgX9_hours_p3_rzI2027 sgX9_hours_p3_raI1170 sgX9_hours_p3_raI2043 u24) ⟨rfl, rfl⟩ ⟨Nat.le_of_ble_eq_true rfl, Nat.le_of_ble_eq_true rfl⟩ ⟨Nat.zero_le _, Nat.zero_le _⟩ hl.1 (Nat.le_of_ble_eq_true rfl) dX9_hours_163 (fun H locs hP hS => ?_)
            refine lv_istore_n (lv' := [(3, .int v23), (2, .int v9), (4, .int v22), (7, .int y4), (6, .int v9), (0, .ref (ad 1448)), (1, .int x1), (5, .int y6)]) hx hb dX9_hours_166 rfl hl (by decide) rfl (fun ls hl => ?_)
            exact J167 v9 v23 v22 hf H locs hP hS ls (lv_sub hl [5, 6, 1, 0, 2, 7, 3] rfl)
          · have hf := ifF c19 hf
            refine lv_aload_n hx hb dX9_hours_77 rfl (lv_at hl 2 rfl) ?_
            refine gx_X9_3_1448 E hX hD hP dX9_hours_78 ?_
            refine gx_X9_15_1000 E hX hD hP dX9_hours_81 ?_
            refine gx_X9_36_2000 E hX hD hP dX9_hours_84 ?_
            refine lv_iload hx hb dX9_hours_87 (lv_at hl 1 rfl) ?_
            refine lv_bipush hx hb dX9_hours_89 bp_100 ?_
            refine lv_isub hx hb dX9_hours_91 ?_
            obtain ⟨v25, u26, hf⟩ := bdP hf
            refine cx_X9_40_J2_get_Lw E hX hD hP hS hA (kxJ2_get_Lw l D G hD sgX9_hours_p3_rzI2032 sgX9_hours_p3_raI2037 u26) ⟨rfl, rfl⟩ ⟨Nat.le_of_ble_eq_true rfl, Nat.le_of_ble_eq_true rfl⟩ ⟨Nat.zero_le _, Nat.zero_le _⟩ hl.1 (Nat.le_of_ble_eq_true rfl) dX9_hours_92 (fun H locs hP hS => ?_)
            obtain ⟨v27, hv27, hf⟩ := bdP hf
            refine p_castP (ci := 16) (q := (RX19, TX19, 3)) hx hb hX.1 hP hown (hts _ q1314) hv27 hD.2.2.1 rfl dX9_hours_95 ?_
            refine r_astore (lv' := [(8, va_rf (drf ad 8000 v27)), (7, .int y4), (6, .int v9), (0, .ref (ad 1448)), (1, .int x1), (2, .int y3), (3, .int y4), (4, .int y5), (5, .int y6)]) hx hb dX9_hours_98 hl (by decide) rfl (fun ls hl => ?_)
            refine lv_iload hx hb dX9_hours_100 (lv_at hl 7 rfl) ?_
            refine r_aload hx hb dX9_hours_102 (lv_at hl 0 rfl) ?_
            obtain ⟨v28, hv28, hf⟩ := bdP hf
            refine gp_X9_48_W E hX hD hP sgX9_hours_p3_rpW2 hv28 dX9_hours_104 ?_
            refine lv_iadd hx hb dX9_hours_107 ?_
            obtain ⟨v29, hv29, hf⟩ := bdP hf
            refine nm_i (Option.some.inj hv29) ?_
            refine lv_istore (lv' := [(4, .int v29), (8, va_rf (drf ad 8000 v27)), (7, .int y4), (6, .int v9), (0, .ref (ad 1448)), (1, .int x1), (2, .int y3), (3, .int y4), (5, .int y6)]) hx hb dX9_hours_108 hl (by decide) rfl (fun ls hl => ?_)
            refine lv_iload_n hx hb dX9_hours_110 rfl (lv_at hl 7 rfl) ?_
            refine r_aload hx hb dX9_hours_111 (lv_at hl 1 rfl) ?_
            obtain ⟨v30, hv30, hf⟩ := bdP hf
            refine gp_X9_51_W E hX hD hP sgX9_hours_p3_rpW1 hv30 dX9_hours_113 ?_
            refine lv_iconst hx hb dX9_hours_116 ic_1 ?_
            refine lv_iload_n hx hb dX9_hours_117 rfl (lv_at hl 5 rfl) ?_
            refine r_aload hx hb dX9_hours_118 (lv_at hl 1 rfl) ?_
            obtain ⟨v31, hv31, hf⟩ := bdP hf
            refine gp_X9_51_W E hX hD hP sgX9_hours_p3_rpW1 hv31 dX9_hours_120 ?_
            refine lv_ishr hx hb dX9_hours_123 ?_
            refine lv_iconst hx hb dX9_hours_124 ic_1 ?_
            refine lv_iand hx hb dX9_hours_125 ?_
            refine lv_iadd hx hb dX9_hours_126 ?_
            obtain ⟨v32, u33, hf⟩ := bdP hf
            refine cx_X9_54_X1_with E hX hD hP hS hA (kxX1_with l D G hD sgX9_hours_p3_raI1170 u33) ⟨rfl, rfl⟩ ⟨Nat.le_of_ble_eq_true rfl, Nat.le_of_ble_eq_true rfl⟩ ⟨Nat.zero_le _, Nat.zero_le _⟩ hl.1 (Nat.le_of_ble_eq_true rfl) dX9_hours_127 (fun H locs hP hS => ?_)
            refine lv_istore_n (lv' := [(3, .int v32), (4, .int v29), (8, va_rf (drf ad 8000 v27)), (7, .int y4), (6, .int v9), (0, .ref (ad 1448)), (1, .int x1), (2, .int y3), (5, .int y6)]) hx hb dX9_hours_130 rfl hl (by decide) rfl (fun ls hl => ?_)
            refine lv_goto (tgt := 167) hx hb dX9_hours_131 (by decide) ?_
            exact J167 y3 v32 v29 hf H locs hP hS ls (lv_sub hl [5, 6, 7, 0, 1, 8, 3] rfl)
        · have hf := ifF c13 hf
          exact KE28_0 _ (hx28 _ (Option.some.inj hf).symm).symm H locs hP hS ls (lv_sub hl [] rfl)
  obtain ⟨ex28, hlp28, hf⟩ := bdP hf
  refine LP28 ((σ.1 2012), v1, 0, 0, (σ.2.2.1 1162)) ex28 hlp28 H locs hP hS ls (lv_sub hl [4, 5, 3, 2, 1, 0] rfl) ?_ ?_
  · intro a34 hex28 H locs hP hS ls hl
    subst ex28
    dsimp only [sE_l, sE_r] at hf
    refine lv_bipush hx hb dX9_hours_64 bp_m2 ?_
    cases hf
    rw [hQ]; exact g_iret hx hb hr hlk hP hS dX9_hours_66
  · intro y35 a36 hex28 H locs hP hS ls hl
    subst ex28
    dsimp only [sE_l, sE_r] at hf
    refine lv_iload hx hb dX9_hours_186 (lv_at hl 0 rfl) ?_
    cases hf
    rw [hQ]; exact g_iret hx hb hr hlk hP hS dX9_hours_188
theorem kxX9_hours_p3 (l : Launch) (D : va_G) (G : Nat → ClassId) {dsc : Nat → Option Dsc} {ad : Nat → Nat} {σ : Sto} {nr nw nu : Nat} (hD : XD dsc nr nw nu) {x1 : Int32} {r_ : Int32} {w_aI1162 : Nat → Int32} {z_L_places : Int32} (e_zI2008 : σ.1 2008 = z_L_places) {z_L_from : Int32} (e_zI2012 : σ.1 2012 = z_L_from) {z_L_to : Int32} (e_zI2013 : σ.1 2013 = z_L_to) {z_Ld_size : Int32} (e_zI2027 : σ.1 2027 = z_Ld_size) {z_Lw_size : Int32} (e_zI2032 : σ.1 2032 = z_Lw_size) {a_p3_far : Nat → Int32} (e_aI1162 : σ.2.2.1 1162 = a_p3_far) {a_UNIT : Nat → Int32} (e_aI1170 : σ.2.2.1 1170 = a_UNIT) {a_Lw_data : Nat → Int32} (e_aI2037 : σ.2.2.1 2037 = a_Lw_data) {a_L_seen : Nat → Int32} (e_aI2043 : σ.2.2.1 2043 = a_L_seen) {n_r : Nat} (e_nN0 : nr = n_r) {n_w : Nat} (e_nN1 : nw = n_w) {p_road_hours : Nat → Int32} (e_pR2 : (fun k => σ.1 (6000 + 16 * k + 2)) = p_road_hours) {p_road_wait : Nat → Int32} (e_pR5 : (fun k => σ.1 (6000 + 16 * k + 5)) = p_road_wait) {p_road_number : Nat → Int32} (e_pR6 : (fun k => σ.1 (6000 + 16 * k + 6)) = p_road_number) {p_word_road : Nat → Int32} (e_pW1 : (fun k => σ.1 (8000 + 16 * k + 1)) = p_word_road) {p_word_hours : Nat → Int32} (e_pW2 : (fun k => σ.1 (8000 + 16 * k + 2)) = p_word_hours) {g_grid : Nat → Nat → Int32} (e_gG0 : (fun k => σ.2.2.1 (4000 + 16 * k)) = g_grid) (hf : xo_X9_hours_p3 z_L_places z_L_from z_L_to z_Ld_size z_Lw_size a_p3_far a_UNIT a_Lw_data a_L_seen n_r n_w p_road_hours p_road_wait p_road_number p_word_road p_word_hours g_grid x1 = some (r_, w_aI1162)) : CtG l D G dsc ad yX9_hours (ws_ yX9_hours cX9_hours 9 (Option.some Jvm.ClassFile.FieldType.int)) rmX9_hours_p3 [.ref (ad 1448), .int x1] σ (some (.int r_)) (aI σ 1162 w_aI1162) := by
  subst e_zI2008
  subst e_zI2012
  subst e_zI2013
  subst e_zI2027
  subst e_zI2032
  subst e_aI1162
  subst e_aI1170
  subst e_aI2037
  subst e_aI2043
  subst e_nN0
  subst e_nN1
  subst e_pR2
  subst e_pR5
  subst e_pR6
  subst e_pW1
  subst e_pW2
  subst e_gG0
  exact p_ctG (by decide +kernel) (Nat.le_of_ble_eq_true rfl) (fun p e s m below meth c0 ls A E hP hX hA hS hl => wkX9_hours_p3 E hX hD hA hf rfl hP hS hl)
end XWALK
