section XWALK
variable {p : Program} {l : Launch} {e : Env} {R : Room} {s : State} {m : MethodId} {args : Array Value} {below : List Frame} {meth : Method} {c0 : Code} {H : Heap} {locs : List Loc} {cells slots : Nat} {Q : State → Prop}
variable {cc : ByteArray} {nL : Nat} {ret : Option FieldType} {pc : Nat} {ls : Array Slot} {rest : List Value} {D : va_G} {A : Nat → Prop} {G : Nat → ClassId} {dsc : Nat → Option Dsc} {ad : Nat → Nat} {σ : Sto} {nr nw nu : Nat}
theorem cx_X9_74_X9_hours_p5 {rm : Room} {σ1 : Sto} {x1 : Int32} {r : Int32} (E : EN p s m args meth c0 RX9 cc nL ret) (hX : KX D G ad A s s.heap) (hD : XD dsc nr nw nu) (hP : PIC D clsA G dsc ad σ H) (hS : va_S A s.heap H locs) (hA : ∀ q, PA dsc ad s.heap.size q → A q) (hM : CtG l D G dsc ad yX9_hours (ws_ yX9_hours cX9_hours 9 (Option.some Jvm.ClassFile.FieldType.int)) rm [.ref (ad 1480), .int x1] σ (some (.int r)) σ1) (hz : rm.cells = 0 ∧ rm.slots = 0) (hR : rm.frames + 1 ≤ R.frames ∧ 8 + (9 + 11) + rm.locals ≤ R.locals) (hcs : cells ≤ R.cells ∧ slots ≤ R.slots) (hsz : ls.size = nL) (hW : (rest.map fun v => v.category).sum ≤ 8) (hdg : decode cc pc = .ok (.invokevirtual 74, 3)) (kk : ∀ (H1 : Heap) (locs1 : List Loc), PIC D clsA G dsc ad σ1 H1 → va_S A s.heap H1 locs1 → W p l e R s m args below meth c0 H1 locs1 cells slots Q (F0 m (pc + 3) ls (.int r :: rest))) : W p l e R s m args below meth c0 H locs cells slots Q (F0 m pc ls (.int x1 :: .ref (ad 1480) :: rest)) :=
  p_gU (As := [.int x1]) (rest := rest) E.1 hX hP hS hA hM (cw_any (owner := "ShutPasses$Plan") (x := ⟨"ShutPasses$Plan", "hours", "(I)I"⟩) (y := yX9_hours) (C := "ShutPasses$Tries") (index := 74) (own := RX9) 1 E.1.2.2.2.2 (lw_meth q1283) rfl hz.1 hz.2 (E.1.2.2.2.2 _ q1275) (E.1.2.2.2.2 _ q1277) (va_Decl.of (E.1.2.2.2.2 _ q1276) (E.1.2.2.2.2 _ q1283)) (E.1.2.2.2.2 _ q1282) (E.1.2.2.2.2 _ q1276) (E.1.2.2.2.2 _ q135) (by decide +kernel) hR) (hD.1 _ _ dX_1480) rfl rfl rfl hsz rfl hW hdg hcs kk
/-! X9_mean_p5 ()J -/
def sgX9_mean_p5 (σ : Sto) (w0 : Nat → Int32) : Sto := aI σ 1160 w0
theorem sgX9_mean_p5_self (σ : Sto) : sgX9_mean_p5 σ (σ.2.2.1 1160) = σ := by
  unfold sgX9_mean_p5
  simp only [zI_self, zL_self, aI_self, aL_self]
theorem sgX9_mean_p5_aI1160 {σ : Sto} {w0 : Nat → Int32} {g : Nat → Int32} : aI (sgX9_mean_p5 σ w0) 1160 g = sgX9_mean_p5 σ g := aI_aI _ 1160 _ _
theorem sgX9_mean_p5_rzI1485 {σ : Sto} {w0 : Nat → Int32} : (sgX9_mean_p5 σ w0).1 1485 = σ.1 1485 := rfl
theorem sgX9_mean_p5_rzI2008 {σ : Sto} {w0 : Nat → Int32} : (sgX9_mean_p5 σ w0).1 2008 = σ.1 2008 := rfl
theorem sgX9_mean_p5_rzI2012 {σ : Sto} {w0 : Nat → Int32} : (sgX9_mean_p5 σ w0).1 2012 = σ.1 2012 := rfl
theorem sgX9_mean_p5_rzI2013 {σ : Sto} {w0 : Nat → Int32} : (sgX9_mean_p5 σ w0).1 2013 = σ.1 2013 := rfl
theorem sgX9_mean_p5_rzI2027 {σ : Sto} {w0 : Nat → Int32} : (sgX9_mean_p5 σ w0).1 2027 = σ.1 2027 := rfl
theorem sgX9_mean_p5_rzI2032 {σ : Sto} {w0 : Nat → Int32} : (sgX9_mean_p5 σ w0).1 2032 = σ.1 2032 := rfl
theorem sgX9_mean_p5_raI1160 {σ : Sto} {w0 : Nat → Int32} : (sgX9_mean_p5 σ w0).2.2.1 1160 = w0 := rfl
theorem sgX9_mean_p5_raI1164 {σ : Sto} {w0 : Nat → Int32} : (sgX9_mean_p5 σ w0).2.2.1 1164 = σ.2.2.1 1164 := rfl
theorem sgX9_mean_p5_raI1170 {σ : Sto} {w0 : Nat → Int32} : (sgX9_mean_p5 σ w0).2.2.1 1170 = σ.2.2.1 1170 := rfl
theorem sgX9_mean_p5_raI2037 {σ : Sto} {w0 : Nat → Int32} : (sgX9_mean_p5 σ w0).2.2.1 2037 = σ.2.2.1 2037 := rfl
theorem sgX9_mean_p5_raI2043 {σ : Sto} {w0 : Nat → Int32} : (sgX9_mean_p5 σ w0).2.2.1 2043 = σ.2.2.1 2043 := rfl
theorem sgX9_mean_p5_raL1140 {σ : Sto} {w0 : Nat → Int32} : (sgX9_mean_p5 σ w0).2.2.2.1 1140 = σ.2.2.2.1 1140 := rfl
theorem sgX9_mean_p5_rpR2 {σ : Sto} {w0 : Nat → Int32} : (fun k => (sgX9_mean_p5 σ w0).1 (6000 + 16 * k + 2)) = (fun k => σ.1 (6000 + 16 * k + 2)) := by
  funext k
  unfold sgX9_mean_p5
  dsimp only [zI, zL, aI, aL]
  repeat rw [if_neg (by omega)]
theorem sgX9_mean_p5_rpR5 {σ : Sto} {w0 : Nat → Int32} : (fun k => (sgX9_mean_p5 σ w0).1 (6000 + 16 * k + 5)) = (fun k => σ.1 (6000 + 16 * k + 5)) := by
  funext k
  unfold sgX9_mean_p5
  dsimp only [zI, zL, aI, aL]
  repeat rw [if_neg (by omega)]
theorem sgX9_mean_p5_rpR6 {σ : Sto} {w0 : Nat → Int32} : (fun k => (sgX9_mean_p5 σ w0).1 (6000 + 16 * k + 6)) = (fun k => σ.1 (6000 + 16 * k + 6)) := by
  funext k
  unfold sgX9_mean_p5
  dsimp only [zI, zL, aI, aL]
  repeat rw [if_neg (by omega)]
theorem sgX9_mean_p5_rpW1 {σ : Sto} {w0 : Nat → Int32} : (fun k => (sgX9_mean_p5 σ w0).1 (8000 + 16 * k + 1)) = (fun k => σ.1 (8000 + 16 * k + 1)) := by
  funext k
  unfold sgX9_mean_p5
  dsimp only [zI, zL, aI, aL]
  repeat rw [if_neg (by omega)]
theorem sgX9_mean_p5_rpW2 {σ : Sto} {w0 : Nat → Int32} : (fun k => (sgX9_mean_p5 σ w0).1 (8000 + 16 * k + 2)) = (fun k => σ.1 (8000 + 16 * k + 2)) := by
  funext k
  unfold sgX9_mean_p5
  dsimp only [zI, zL, aI, aL]
  repeat rw [if_neg (by omega)]
theorem sgX9_mean_p5_rgG0 {σ : Sto} {w0 : Nat → Int32} : (fun k => (sgX9_mean_p5 σ w0).2.2.1 (4000 + 16 * k)) = (fun k => σ.2.2.1 (4000 + 16 * k)) := by
  funext k
  unfold sgX9_mean_p5
  dsimp only [zI, zL, aI, aL]
  repeat rw [if_neg (by omega)]
abbrev rmX9_mean_p5 : Room := { frames := 5, cells := 0, slots := 0, locals := 124 }
set_option maxHeartbeats 4000000 in
theorem wkX9_mean_p5 {r_ : Int64} {w_aI1160 : Nat → Int32} (E : EN p s m args meth c0 RX9 cX9_mean 5 (Option.some Jvm.ClassFile.FieldType.long)) (hX : KX D G ad A s s.heap) (hD : XD dsc nr nw nu) (hA : ∀ q, PA dsc ad s.heap.size q → A q) (hf : xo_X9_mean_p5 (σ.1 1485) (σ.1 2008) (σ.1 2012) (σ.1 2013) (σ.1 2027) (σ.1 2032) (σ.2.2.1 1160) (σ.2.2.1 1164) (σ.2.2.1 1170) (σ.2.2.1 2037) (σ.2.2.1 2043) (σ.2.2.2.1 1140) nr nw (fun k => σ.1 (6000 + 16 * k + 2)) (fun k => σ.1 (6000 + 16 * k + 5)) (fun k => σ.1 (6000 + 16 * k + 6)) (fun k => σ.1 (8000 + 16 * k + 1)) (fun k => σ.1 (8000 + 16 * k + 2)) (fun k => σ.2.2.1 (4000 + 16 * k)) = some (r_, w_aI1160)) (hQ : Q = MQ below (va_G1 (some (.long r_)) (fun t => PIC D clsA G dsc ad (sgX9_mean_p5 σ w_aI1160) t.heap) A) args s 0 0 A) (hP : PIC D clsA G dsc ad σ H) (hS : va_S A s.heap H locs) (hl : lv_has ls 5 [(0, .ref (ad 1480))]) : W p l e rmX9_mean_p5 s m args below meth c0 H locs 0 0 Q (F0 m 0 ls []) := by
  obtain ⟨⟨hx, hb, hml, hown, hts⟩, hr, hlk⟩ := id E
  have hP := hP.to (sgX9_mean_p5_self σ).symm
  unfold xo_X9_mean_p5 at hf
  refine lv_lconst hx hb dX9_mean_0 lc_0 ?_
  refine lv_lstore_n (lv' := [(1, .long 0), (0, .ref (ad 1480))]) hx hb dX9_mean_1 rfl hl (by decide) rfl (fun ls hl => ?_)
  refine lv_iconst hx hb dX9_mean_2 ic_0 ?_
  refine lv_istore_n (lv' := [(3, .int 0), (1, .long 0), (0, .ref (ad 1480))]) hx hb dX9_mean_3 rfl hl (by decide) rfl (fun ls hl => ?_)
  have LP4 : ∀ (st4 : Int64 × Int32 × (Nat → Int32)) (ex4 : ((Nat → Int32)) ⊕ (Int64 × (Nat → Int32))), loop (xo_X9_mean_p5_L4 (σ.1 1485) (σ.1 2008) (σ.1 2012) (σ.1 2013) (σ.1 2027) (σ.1 2032) (σ.2.2.1 1164) (σ.2.2.1 1170) (σ.2.2.1 2037) (σ.2.2.1 2043) (σ.2.2.2.1 1140) nr nw (fun k => σ.1 (6000 + 16 * k + 2)) (fun k => σ.1 (6000 + 16 * k + 5)) (fun k => σ.1 (6000 + 16 * k + 6)) (fun k => σ.1 (8000 + 16 * k + 1)) (fun k => σ.1 (8000 + 16 * k + 2)) (fun k => σ.2.2.1 (4000 + 16 * k))) st4 = some ex4 → ∀ (H : Heap) (locs : List Loc), PIC D clsA G dsc ad (sgX9_mean_p5 σ (st4.2.2)) H → va_S A s.heap H locs → ∀ (ls : Array Slot), lv_has ls 5 [(0, .ref (ad 1480)), (1, .long (st4.1)), (3, .int (st4.2.1))] → (∀ (a18 : Nat → Int32), ex4 = (.inl a18) → ∀ (H : Heap) (locs : List Loc), PIC D clsA G dsc ad (sgX9_mean_p5 σ a18) H → va_S A s.heap H locs → ∀ (ls : Array Slot), lv_has ls 5 [] → W p l e rmX9_mean_p5 s m args below meth c0 H locs 0 0 Q (F0 m 52 ls [])) → (∀ (y19 : Int64) (a20 : Nat → Int32), ex4 = (.inr (y19, a20)) → ∀ (H : Heap) (locs : List Loc), PIC D clsA G dsc ad (sgX9_mean_p5 σ a20) H → va_S A s.heap H locs → ∀ (ls : Array Slot), lv_has ls 5 [(1, .long y19)] → W p l e rmX9_mean_p5 s m args below meth c0 H locs 0 0 Q (F0 m 81 ls [])) → W p l e rmX9_mean_p5 s m args below meth c0 H locs 0 0 Q (F0 m 4 ls []) := by
    refine loop_P (fun st4 ex4 o4 hf ih4 hx4 => ?_)
    obtain ⟨y1, y2, a3⟩ := st4
    intro H locs (hP : PIC D clsA G dsc ad (sgX9_mean_p5 σ a3) H) hS ls (hl : lv_has ls 5 [(0, .ref (ad 1480)), (1, .long y1), (3, .int y2)]) KE4_0 KE4_1
    dsimp only [xo_X9_mean_p5_L4] at hf
    refine lv_iload_n hx hb dX9_mean_4 rfl (lv_at hl 2 rfl) ?_
    refine lv_aload_n hx hb dX9_mean_5 rfl (lv_at hl 0 rfl) ?_
    refine gx_X9_3_1480 E hX hD hP dX9_mean_6 ?_
    refine gx_X9_15_1000 E hX hD hP dX9_mean_9 ?_
    obtain ⟨v4, u5, hf⟩ := bdP hf
    refine cx_X9_60_X3_worlds E hX hD hP hS hA (kxX3_worlds l D G hD sgX9_mean_p5_rzI2027 u5) ⟨rfl, rfl⟩ ⟨Nat.le_of_ble_eq_true rfl, Nat.le_of_ble_eq_true rfl⟩ ⟨Nat.zero_le _, Nat.zero_le _⟩ hl.1 (Nat.le_of_ble_eq_true rfl) dX9_mean_12 (fun H locs hP hS => ?_)
    refine lv_icmp_ge (tgt := 81) hx hb dX9_mean_15 (by decide) (fun c6 => ?_) (fun c6 => ?_)
    · have hf := ifT c6 hf
      exact KE4_1 _ _ (hx4 _ (Option.some.inj hf).symm).symm H locs hP hS ls (lv_sub hl [1] rfl)
    · have hf := ifF c6 hf
      refine lv_aload_n hx hb dX9_mean_18 rfl (lv_at hl 0 rfl) ?_
      refine gx_X9_3_1480 E hX hD hP dX9_mean_19 ?_
      refine gx_X9_64_1000 E hX hD hP dX9_mean_22 ?_
      refine gx_X9_68_1050 E hX hD hP dX9_mean_25 ?_
      refine lv_iload_n hx hb dX9_mean_28 rfl (lv_at hl 2 rfl) ?_
      obtain ⟨v7, hv7, hf⟩ := bdP hf
      refine p_lald hx hb hX.1 hP (hD.1 _ _ dX_1140) sgX9_mean_p5_raL1140 hv7 dX9_mean_29 ?_
      refine lv_lconst hx hb dX9_mean_30 lc_0 ?_
      refine W.lcmp hx hb dX9_mean_31 ?_
      have J75 : ∀ (y8 : Int64) (a9 : Nat → Int32), xo_X9_mean_p5_J75 y2 y8 a9 = some o4 → ∀ (H : Heap) (locs : List Loc), PIC D clsA G dsc ad (sgX9_mean_p5 σ a9) H → va_S A s.heap H locs → ∀ (ls : Array Slot), lv_has ls 5 [(0, .ref (ad 1480)), (1, .long y8), (3, .int y2)] → W p l e rmX9_mean_p5 s m args below meth c0 H locs 0 0 Q (F0 m 75 ls []) := by
        intro y8 a9 hf H locs hP hS ls hl
        unfold xo_X9_mean_p5_J75 at hf
        obtain ⟨v10, hv10, hf⟩ := bdP hf
        refine lv_iinc (v := v10) (lv' := [(3, .int v10), (0, .ref (ad 1480)), (1, .long y8)]) hx hb dX9_mean_75 hl (k := 2) rfl (Option.some.inj hv10) (by decide) rfl (fun ls hl => ?_)
        refine lv_goto (tgt := 4) hx hb dX9_mean_78 (by decide) ?_
        exact ih4 _ (Option.some.inj hf).symm H locs hP hS ls (lv_sub hl [1, 2, 0] rfl) KE4_0 KE4_1
      refine lv_if_ne (tgt := 38) hx hb dX9_mean_32 (by decide) (fun c11 => ?_) (fun c11 => ?_)
      · have hf := ifF (mt (lgc_eq _ _).mpr c11) hf
        refine lv_aload_n hx hb dX9_mean_38 rfl (lv_at hl 0 rfl) ?_
        refine lv_iload_n hx hb dX9_mean_39 rfl (lv_at hl 2 rfl) ?_
        obtain ⟨⟨v12, a13⟩, u14, hf⟩ := bdP hf
        dsimp only at hf
        refine cx_X9_74_X9_hours_p5 E hX hD hP hS hA (kxX9_hours_p5 l D G hD sgX9_mean_p5_rzI1485 sgX9_mean_p5_rzI2008 sgX9_mean_p5_rzI2012 sgX9_mean_p5_rzI2013 sgX9_mean_p5_rzI2027 sgX9_mean_p5_rzI2032 sgX9_mean_p5_raI1160 sgX9_mean_p5_raI1164 sgX9_mean_p5_raI1170 sgX9_mean_p5_raI2037 sgX9_mean_p5_raI2043 rfl rfl sgX9_mean_p5_rpR2 sgX9_mean_p5_rpR5 sgX9_mean_p5_rpR6 sgX9_mean_p5_rpW1 sgX9_mean_p5_rpW2 sgX9_mean_p5_rgG0 u14) ⟨rfl, rfl⟩ ⟨Nat.le_of_ble_eq_true rfl, Nat.le_of_ble_eq_true rfl⟩ ⟨Nat.zero_le _, Nat.zero_le _⟩ hl.1 (Nat.le_of_ble_eq_true rfl) dX9_mean_40 (fun H locs hP hS => ?_)
        rw [sgX9_mean_p5_aI1160] at hP
        refine lv_istore (lv' := [(4, .int v12), (0, .ref (ad 1480)), (1, .long y1), (3, .int y2)]) hx hb dX9_mean_43 hl (by decide) rfl (fun ls hl => ?_)
        refine lv_iload hx hb dX9_mean_45 (lv_at hl 0 rfl) ?_
        refine lv_bipush hx hb dX9_mean_47 bp_m2 ?_
        refine lv_icmp_ne (tgt := 56) hx hb dX9_mean_49 (by decide) (fun c15 => ?_) (fun c15 => ?_)
        · have hf := ifF c15 hf
          refine lv_lload_n hx hb dX9_mean_56 rfl (lv_at hl 2 rfl) ?_
          refine lv_aload_n hx hb dX9_mean_57 rfl (lv_at hl 1 rfl) ?_
          refine gx_X9_3_1480 E hX hD hP dX9_mean_58 ?_
          refine gx_X9_64_1000 E hX hD hP dX9_mean_61 ?_
          refine gx_X9_68_1050 E hX hD hP dX9_mean_64 ?_
          refine lv_iload_n hx hb dX9_mean_67 rfl (lv_at hl 3 rfl) ?_
          obtain ⟨v16, hv16, hf⟩ := bdP hf
          refine p_lald hx hb hX.1 hP (hD.1 _ _ dX_1140) sgX9_mean_p5_raL1140 hv16 dX9_mean_68 ?_
          refine lv_iload hx hb dX9_mean_69 (lv_at hl 0 rfl) ?_
          refine lv_i2l hx hb dX9_mean_71 rfl ?_
          refine lv_lmul hx hb dX9_mean_72 ?_
          refine lv_ladd hx hb dX9_mean_73 ?_
          obtain ⟨v17, hv17, hf⟩ := bdP hf
          refine nm_l (Option.some.inj hv17) ?_
          refine lv_lstore_n (lv' := [(1, .long v17), (4, .int v12), (0, .ref (ad 1480)), (3, .int y2)]) hx hb dX9_mean_74 rfl hl (by decide) rfl (fun ls hl => ?_)
          exact J75 v17 a13 hf H locs hP hS ls (lv_sub hl [2, 0, 3] rfl)
        · have hf := ifT c15 hf
          exact KE4_0 _ (hx4 _ (Option.some.inj hf).symm).symm H locs hP hS ls (lv_sub hl [] rfl)
      · have hf := ifT ((lgc_eq _ _).mp c11) hf
        refine lv_goto (tgt := 75) hx hb dX9_mean_35 (by decide) ?_
        exact J75 y1 a3 hf H locs hP hS ls (lv_sub hl [0, 1, 2] rfl)
  obtain ⟨ex4, hlp4, hf⟩ := bdP hf
  refine LP4 (0, 0, (σ.2.2.1 1160)) ex4 hlp4 H locs hP hS ls (lv_sub hl [2, 1, 0] rfl) ?_ ?_
  · intro a18 hex4 H locs hP hS ls hl
    subst ex4
    dsimp only [sE_l, sE_r] at hf
    refine lv_ldc2 hx hb hown (hts _ q1345) dX9_mean_52 ?_
    cases hf
    rw [hQ]; exact g_lret hx hb hr hlk hP hS dX9_mean_55
  · intro y19 a20 hex4 H locs hP hS ls hl
    subst ex4
    dsimp only [sE_l, sE_r] at hf
    refine lv_lload_n hx hb dX9_mean_81 rfl (lv_at hl 0 rfl) ?_
    cases hf
    rw [hQ]; exact g_lret hx hb hr hlk hP hS dX9_mean_82
theorem kxX9_mean_p5 (l : Launch) (D : va_G) (G : Nat → ClassId) {dsc : Nat → Option Dsc} {ad : Nat → Nat} {σ : Sto} {nr nw nu : Nat} (hD : XD dsc nr nw nu) {r_ : Int64} {w_aI1160 : Nat → Int32} {z_p5_many : Int32} (e_zI1485 : σ.1 1485 = z_p5_many) {z_L_places : Int32} (e_zI2008 : σ.1 2008 = z_L_places) {z_L_from : Int32} (e_zI2012 : σ.1 2012 = z_L_from) {z_L_to : Int32} (e_zI2013 : σ.1 2013 = z_L_to) {z_Ld_size : Int32} (e_zI2027 : σ.1 2027 = z_Ld_size) {z_Lw_size : Int32} (e_zI2032 : σ.1 2032 = z_Lw_size) {a_p5_far : Nat → Int32} (e_aI1160 : σ.2.2.1 1160 = a_p5_far) {a_p5_row : Nat → Int32} (e_aI1164 : σ.2.2.1 1164 = a_p5_row) {a_UNIT : Nat → Int32} (e_aI1170 : σ.2.2.1 1170 = a_UNIT) {a_Lw_data : Nat → Int32} (e_aI2037 : σ.2.2.1 2037 = a_Lw_data) {a_L_seen : Nat → Int32} (e_aI2043 : σ.2.2.1 2043 = a_L_seen) {a_W_world : Nat → Int64} (e_aL1140 : σ.2.2.2.1 1140 = a_W_world) {n_r : Nat} (e_nN0 : nr = n_r) {n_w : Nat} (e_nN1 : nw = n_w) {p_road_hours : Nat → Int32} (e_pR2 : (fun k => σ.1 (6000 + 16 * k + 2)) = p_road_hours) {p_road_wait : Nat → Int32} (e_pR5 : (fun k => σ.1 (6000 + 16 * k + 5)) = p_road_wait) {p_road_number : Nat → Int32} (e_pR6 : (fun k => σ.1 (6000 + 16 * k + 6)) = p_road_number) {p_word_road : Nat → Int32} (e_pW1 : (fun k => σ.1 (8000 + 16 * k + 1)) = p_word_road) {p_word_hours : Nat → Int32} (e_pW2 : (fun k => σ.1 (8000 + 16 * k + 2)) = p_word_hours) {g_grid : Nat → Nat → Int32} (e_gG0 : (fun k => σ.2.2.1 (4000 + 16 * k)) = g_grid) (hf : xo_X9_mean_p5 z_p5_many z_L_places z_L_from z_L_to z_Ld_size z_Lw_size a_p5_far a_p5_row a_UNIT a_Lw_data a_L_seen a_W_world n_r n_w p_road_hours p_road_wait p_road_number p_word_road p_word_hours g_grid = some (r_, w_aI1160)) : CtG l D G dsc ad yX9_mean (ws_ yX9_mean cX9_mean 5 (Option.some Jvm.ClassFile.FieldType.long)) rmX9_mean_p5 [.ref (ad 1480)] σ (some (.long r_)) (aI σ 1160 w_aI1160) := by
  subst e_zI1485
  subst e_zI2008
  subst e_zI2012
  subst e_zI2013
  subst e_zI2027
  subst e_zI2032
  subst e_aI1160
  subst e_aI1164
  subst e_aI1170
  subst e_aI2037
  subst e_aI2043
  subst e_aL1140
  subst e_nN0
  subst e_nN1
  subst e_pR2
  subst e_pR5
  subst e_pR6
  subst e_pW1
  subst e_pW2
  subst e_gG0
  exact p_ctG (by decide +kernel) (Nat.le_of_ble_eq_true rfl) (fun p e s m below meth c0 ls A E hP hX hA hS hl => wkX9_mean_p5 E hX hD hA hf rfl hP hS hl)
theorem cx_X9_74_X9_hours_p6 {rm : Room} {σ1 : Sto} {x1 : Int32} {r : Int32} (E : EN p s m args meth c0 RX9 cc nL ret) (hX : KX D G ad A s s.heap) (hD : XD dsc nr nw nu) (hP : PIC D clsA G dsc ad σ H) (hS : va_S A s.heap H locs) (hA : ∀ q, PA dsc ad s.heap.size q → A q) (hM : CtG l D G dsc ad yX9_hours (ws_ yX9_hours cX9_hours 9 (Option.some Jvm.ClassFile.FieldType.int)) rm [.ref (ad 1496), .int x1] σ (some (.int r)) σ1) (hz : rm.cells = 0 ∧ rm.slots = 0) (hR : rm.frames + 1 ≤ R.frames ∧ 8 + (9 + 11) + rm.locals ≤ R.locals) (hcs : cells ≤ R.cells ∧ slots ≤ R.slots) (hsz : ls.size = nL) (hW : (rest.map fun v => v.category).sum ≤ 8) (hdg : decode cc pc = .ok (.invokevirtual 74, 3)) (kk : ∀ (H1 : Heap) (locs1 : List Loc), PIC D clsA G dsc ad σ1 H1 → va_S A s.heap H1 locs1 → W p l e R s m args below meth c0 H1 locs1 cells slots Q (F0 m (pc + 3) ls (.int r :: rest))) : W p l e R s m args below meth c0 H locs cells slots Q (F0 m pc ls (.int x1 :: .ref (ad 1496) :: rest)) :=
  p_gU (As := [.int x1]) (rest := rest) E.1 hX hP hS hA hM (cw_any (owner := "ShutPasses$Plan") (x := ⟨"ShutPasses$Plan", "hours", "(I)I"⟩) (y := yX9_hours) (C := "ShutPasses$ByHand") (index := 74) (own := RX9) 1 E.1.2.2.2.2 (lw_meth q1283) rfl hz.1 hz.2 (E.1.2.2.2.2 _ q1275) (E.1.2.2.2.2 _ q1277) (va_Decl.of (E.1.2.2.2.2 _ q1276) (E.1.2.2.2.2 _ q1283)) (E.1.2.2.2.2 _ q1278) (E.1.2.2.2.2 _ q1276) (E.1.2.2.2.2 _ q135) (by decide +kernel) hR) (hD.1 _ _ dX_1496) rfl rfl rfl hsz rfl hW hdg hcs kk
/-! X9_mean_p6 ()J -/
abbrev rmX9_mean_p6 : Room := { frames := 5, cells := 0, slots := 0, locals := 116 }
set_option maxHeartbeats 4000000 in
theorem wkX9_mean_p6 {r_ : Int64} (E : EN p s m args meth c0 RX9 cX9_mean 5 (Option.some Jvm.ClassFile.FieldType.long)) (hX : KX D G ad A s s.heap) (hD : XD dsc nr nw nu) (hA : ∀ q, PA dsc ad s.heap.size q → A q) (hf : xo_X9_mean_p6 (σ.1 1262) (σ.1 2012) (σ.1 2013) (σ.1 2027) (σ.1 2032) (σ.2.2.1 1170) (σ.2.2.1 1265) (σ.2.2.1 2037) (σ.2.2.1 2043) (σ.2.2.2.1 1140) nr nw nu (fun k => σ.1 (6000 + 16 * k + 2)) (fun k => σ.1 (6000 + 16 * k + 5)) (fun k => σ.1 (6000 + 16 * k + 6)) (fun k => σ.1 (8000 + 16 * k + 1)) (fun k => σ.1 (8000 + 16 * k + 2)) (fun k => σ.1 (10000 + 16 * k + 0)) (fun k => σ.1 (10000 + 16 * k + 1)) (fun k => σ.1 (10000 + 16 * k + 2)) (fun k => σ.1 (10000 + 16 * k + 3)) (fun k => σ.2.2.1 (4000 + 16 * k)) = some r_) (hQ : Q = MQ below (va_G1 (some (.long r_)) (fun t => PIC D clsA G dsc ad σ t.heap) A) args s 0 0 A) (hP : PIC D clsA G dsc ad σ H) (hS : va_S A s.heap H locs) (hl : lv_has ls 5 [(0, .ref (ad 1496))]) : W p l e rmX9_mean_p6 s m args below meth c0 H locs 0 0 Q (F0 m 0 ls []) := by
  obtain ⟨⟨hx, hb, hml, hown, hts⟩, hr, hlk⟩ := id E
  unfold xo_X9_mean_p6 at hf
  refine lv_lconst hx hb dX9_mean_0 lc_0 ?_
  refine lv_lstore_n (lv' := [(1, .long 0), (0, .ref (ad 1496))]) hx hb dX9_mean_1 rfl hl (by decide) rfl (fun ls hl => ?_)
  refine lv_iconst hx hb dX9_mean_2 ic_0 ?_
  refine lv_istore_n (lv' := [(3, .int 0), (1, .long 0), (0, .ref (ad 1496))]) hx hb dX9_mean_3 rfl hl (by decide) rfl (fun ls hl => ?_)
  have LP4 : ∀ (st4 : Int64 × Int32) (ex4 : (Unit) ⊕ (Int64)), loop (xo_X9_mean_p6_L4 (σ.1 1262) (σ.1 2012) (σ.1 2013) (σ.1 2027) (σ.1 2032) (σ.2.2.1 1170) (σ.2.2.1 1265) (σ.2.2.1 2037) (σ.2.2.1 2043) (σ.2.2.2.1 1140) nr nw nu (fun k => σ.1 (6000 + 16 * k + 2)) (fun k => σ.1 (6000 + 16 * k + 5)) (fun k => σ.1 (6000 + 16 * k + 6)) (fun k => σ.1 (8000 + 16 * k + 1)) (fun k => σ.1 (8000 + 16 * k + 2)) (fun k => σ.1 (10000 + 16 * k + 0)) (fun k => σ.1 (10000 + 16 * k + 1)) (fun k => σ.1 (10000 + 16 * k + 2)) (fun k => σ.1 (10000 + 16 * k + 3)) (fun k => σ.2.2.1 (4000 + 16 * k))) st4 = some ex4 → ∀ (H : Heap) (locs : List Loc), PIC D clsA G dsc ad σ H → va_S A s.heap H locs → ∀ (ls : Array Slot), lv_has ls 5 [(0, .ref (ad 1496)), (1, .long (st4.1)), (3, .int (st4.2))] → (ex4 = (.inl (())) → ∀ (H : Heap) (locs : List Loc), PIC D clsA G dsc ad σ H → va_S A s.heap H locs → ∀ (ls : Array Slot), lv_has ls 5 [] → W p l e rmX9_mean_p6 s m args below meth c0 H locs 0 0 Q (F0 m 52 ls [])) → (∀ (y15 : Int64), ex4 = (.inr y15) → ∀ (H : Heap) (locs : List Loc), PIC D clsA G dsc ad σ H → va_S A s.heap H locs → ∀ (ls : Array Slot), lv_has ls 5 [(1, .long y15)] → W p l e rmX9_mean_p6 s m args below meth c0 H locs 0 0 Q (F0 m 81 ls [])) → W p l e rmX9_mean_p6 s m args below meth c0 H locs 0 0 Q (F0 m 4 ls []) := by
    refine loop_P (fun st4 ex4 o4 hf ih4 hx4 => ?_)
    obtain ⟨y1, y2⟩ := st4
    intro H locs (hP : PIC D clsA G dsc ad σ H) hS ls (hl : lv_has ls 5 [(0, .ref (ad 1496)), (1, .long y1), (3, .int y2)]) KE4_0 KE4_1
    dsimp only [xo_X9_mean_p6_L4] at hf
    refine lv_iload_n hx hb dX9_mean_4 rfl (lv_at hl 2 rfl) ?_
    refine lv_aload_n hx hb dX9_mean_5 rfl (lv_at hl 0 rfl) ?_
    refine gx_X9_3_1496 E hX hD hP dX9_mean_6 ?_
    refine gx_X9_15_1000 E hX hD hP dX9_mean_9 ?_
    obtain ⟨v3, u4, hf⟩ := bdP hf
    refine cx_X9_60_X3_worlds E hX hD hP hS hA (kxX3_worlds l D G hD rfl u4) ⟨rfl, rfl⟩ ⟨Nat.le_of_ble_eq_true rfl, Nat.le_of_ble_eq_true rfl⟩ ⟨Nat.zero_le _, Nat.zero_le _⟩ hl.1 (Nat.le_of_ble_eq_true rfl) dX9_mean_12 (fun H locs hP hS => ?_)
    refine lv_icmp_ge (tgt := 81) hx hb dX9_mean_15 (by decide) (fun c5 => ?_) (fun c5 => ?_)
    · have hf := ifT c5 hf
      exact KE4_1 _ (hx4 _ (Option.some.inj hf).symm).symm H locs hP hS ls (lv_sub hl [1] rfl)
    · have hf := ifF c5 hf
      refine lv_aload_n hx hb dX9_mean_18 rfl (lv_at hl 0 rfl) ?_
      refine gx_X9_3_1496 E hX hD hP dX9_mean_19 ?_
      refine gx_X9_64_1000 E hX hD hP dX9_mean_22 ?_
      refine gx_X9_68_1050 E hX hD hP dX9_mean_25 ?_
      refine lv_iload_n hx hb dX9_mean_28 rfl (lv_at hl 2 rfl) ?_
      obtain ⟨v6, hv6, hf⟩ := bdP hf
      refine p_lald hx hb hX.1 hP (hD.1 _ _ dX_1140) rfl hv6 dX9_mean_29 ?_
      refine lv_lconst hx hb dX9_mean_30 lc_0 ?_
      refine W.lcmp hx hb dX9_mean_31 ?_
      have J75 : ∀ (y7 : Int64), xo_X9_mean_p6_J75 y2 y7 = some o4 → ∀ (H : Heap) (locs : List Loc), PIC D clsA G dsc ad σ H → va_S A s.heap H locs → ∀ (ls : Array Slot), lv_has ls 5 [(0, .ref (ad 1496)), (1, .long y7), (3, .int y2)] → W p l e rmX9_mean_p6 s m args below meth c0 H locs 0 0 Q (F0 m 75 ls []) := by
        intro y7 hf H locs hP hS ls hl
        unfold xo_X9_mean_p6_J75 at hf
        obtain ⟨v8, hv8, hf⟩ := bdP hf
        refine lv_iinc (v := v8) (lv' := [(3, .int v8), (0, .ref (ad 1496)), (1, .long y7)]) hx hb dX9_mean_75 hl (k := 2) rfl (Option.some.inj hv8) (by decide) rfl (fun ls hl => ?_)
        refine lv_goto (tgt := 4) hx hb dX9_mean_78 (by decide) ?_
        exact ih4 _ (Option.some.inj hf).symm H locs hP hS ls (lv_sub hl [1, 2, 0] rfl) KE4_0 KE4_1
      refine lv_if_ne (tgt := 38) hx hb dX9_mean_32 (by decide) (fun c9 => ?_) (fun c9 => ?_)
      · have hf := ifF (mt (lgc_eq _ _).mpr c9) hf
        refine lv_aload_n hx hb dX9_mean_38 rfl (lv_at hl 0 rfl) ?_
        refine lv_iload_n hx hb dX9_mean_39 rfl (lv_at hl 2 rfl) ?_
        obtain ⟨v10, u11, hf⟩ := bdP hf
        refine cx_X9_74_X9_hours_p6 E hX hD hP hS hA (kxX9_hours_p6 l D G hD rfl rfl rfl rfl rfl rfl rfl rfl rfl rfl rfl rfl rfl rfl rfl rfl rfl rfl rfl rfl rfl rfl u11) ⟨rfl, rfl⟩ ⟨Nat.le_of_ble_eq_true rfl, Nat.le_of_ble_eq_true rfl⟩ ⟨Nat.zero_le _, Nat.zero_le _⟩ hl.1 (Nat.le_of_ble_eq_true rfl) dX9_mean_40 (fun H locs hP hS => ?_)
        refine lv_istore (lv' := [(4, .int v10), (0, .ref (ad 1496)), (1, .long y1), (3, .int y2)]) hx hb dX9_mean_43 hl (by decide) rfl (fun ls hl => ?_)
        refine lv_iload hx hb dX9_mean_45 (lv_at hl 0 rfl) ?_
        refine lv_bipush hx hb dX9_mean_47 bp_m2 ?_
        refine lv_icmp_ne (tgt := 56) hx hb dX9_mean_49 (by decide) (fun c12 => ?_) (fun c12 => ?_)
        · have hf := ifF c12 hf
          refine lv_lload_n hx hb dX9_mean_56 rfl (lv_at hl 2 rfl) ?_
          refine lv_aload_n hx hb dX9_mean_57 rfl (lv_at hl 1 rfl) ?_
          refine gx_X9_3_1496 E hX hD hP dX9_mean_58 ?_
          refine gx_X9_64_1000 E hX hD hP dX9_mean_61 ?_
          refine gx_X9_68_1050 E hX hD hP dX9_mean_64 ?_
          refine lv_iload_n hx hb dX9_mean_67 rfl (lv_at hl 3 rfl) ?_
          obtain ⟨v13, hv13, hf⟩ := bdP hf
          refine p_lald hx hb hX.1 hP (hD.1 _ _ dX_1140) rfl hv13 dX9_mean_68 ?_
          refine lv_iload hx hb dX9_mean_69 (lv_at hl 0 rfl) ?_
          refine lv_i2l hx hb dX9_mean_71 rfl ?_
          refine lv_lmul hx hb dX9_mean_72 ?_
          refine lv_ladd hx hb dX9_mean_73 ?_
          obtain ⟨v14, hv14, hf⟩ := bdP hf
          refine nm_l (Option.some.inj hv14) ?_
          refine lv_lstore_n (lv' := [(1, .long v14), (4, .int v10), (0, .ref (ad 1496)), (3, .int y2)]) hx hb dX9_mean_74 rfl hl (by decide) rfl (fun ls hl => ?_)
          exact J75 v14 hf H locs hP hS ls (lv_sub hl [2, 0, 3] rfl)
        · have hf := ifT c12 hf
          exact KE4_0  (hx4 _ (Option.some.inj hf).symm).symm H locs hP hS ls (lv_sub hl [] rfl)
      · have hf := ifT ((lgc_eq _ _).mp c9) hf
        refine lv_goto (tgt := 75) hx hb dX9_mean_35 (by decide) ?_
        exact J75 y1 hf H locs hP hS ls (lv_sub hl [0, 1, 2] rfl)
  obtain ⟨ex4, hlp4, hf⟩ := bdP hf
  refine LP4 (0, 0) ex4 hlp4 H locs hP hS ls (lv_sub hl [2, 1, 0] rfl) ?_ ?_
  · intro  hex4 H locs hP hS ls hl
    subst ex4
    dsimp only [sE_l, sE_r] at hf
    refine lv_ldc2 hx hb hown (hts _ q1345) dX9_mean_52 ?_
    cases hf
    rw [hQ]; exact g_lret hx hb hr hlk hP hS dX9_mean_55
  · intro y15 hex4 H locs hP hS ls hl
    subst ex4
    dsimp only [sE_l, sE_r] at hf
    refine lv_lload_n hx hb dX9_mean_81 rfl (lv_at hl 0 rfl) ?_
    cases hf
    rw [hQ]; exact g_lret hx hb hr hlk hP hS dX9_mean_82
theorem kxX9_mean_p6 (l : Launch) (D : va_G) (G : Nat → ClassId) {dsc : Nat → Option Dsc} {ad : Nat → Nat} {σ : Sto} {nr nw nu : Nat} (hD : XD dsc nr nw nu) {r_ : Int64} {z_ru_size : Int32} (e_zI1262 : σ.1 1262 = z_ru_size) {z_L_from : Int32} (e_zI2012 : σ.1 2012 = z_L_from) {z_L_to : Int32} (e_zI2013 : σ.1 2013 = z_L_to) {z_Ld_size : Int32} (e_zI2027 : σ.1 2027 = z_Ld_size) {z_Lw_size : Int32} (e_zI2032 : σ.1 2032 = z_Lw_size) {a_UNIT : Nat → Int32} (e_aI1170 : σ.2.2.1 1170 = a_UNIT) {a_ru_data : Nat → Int32} (e_aI1265 : σ.2.2.1 1265 = a_ru_data) {a_Lw_data : Nat → Int32} (e_aI2037 : σ.2.2.1 2037 = a_Lw_data) {a_L_seen : Nat → Int32} (e_aI2043 : σ.2.2.1 2043 = a_L_seen) {a_W_world : Nat → Int64} (e_aL1140 : σ.2.2.2.1 1140 = a_W_world) {n_r : Nat} (e_nN0 : nr = n_r) {n_w : Nat} (e_nN1 : nw = n_w) {n_u : Nat} (e_nN2 : nu = n_u) {p_road_hours : Nat → Int32} (e_pR2 : (fun k => σ.1 (6000 + 16 * k + 2)) = p_road_hours) {p_road_wait : Nat → Int32} (e_pR5 : (fun k => σ.1 (6000 + 16 * k + 5)) = p_road_wait) {p_road_number : Nat → Int32} (e_pR6 : (fun k => σ.1 (6000 + 16 * k + 6)) = p_road_number) {p_word_road : Nat → Int32} (e_pW1 : (fun k => σ.1 (8000 + 16 * k + 1)) = p_word_road) {p_word_hours : Nat → Int32} (e_pW2 : (fun k => σ.1 (8000 + 16 * k + 2)) = p_word_hours) {p_rule_place : Nat → Int32} (e_pU0 : (fun k => σ.1 (10000 + 16 * k + 0)) = p_rule_place) {p_rule_road : Nat → Int32} (e_pU1 : (fun k => σ.1 (10000 + 16 * k + 1)) = p_rule_road) {p_rule_known : Nat → Int32} (e_pU2 : (fun k => σ.1 (10000 + 16 * k + 2)) = p_rule_known) {p_rule_to : Nat → Int32} (e_pU3 : (fun k => σ.1 (10000 + 16 * k + 3)) = p_rule_to) {g_grid : Nat → Nat → Int32} (e_gG0 : (fun k => σ.2.2.1 (4000 + 16 * k)) = g_grid) (hf : xo_X9_mean_p6 z_ru_size z_L_from z_L_to z_Ld_size z_Lw_size a_UNIT a_ru_data a_Lw_data a_L_seen a_W_world n_r n_w n_u p_road_hours p_road_wait p_road_number p_word_road p_word_hours p_rule_place p_rule_road p_rule_known p_rule_to g_grid = some r_) : CtG l D G dsc ad yX9_mean (ws_ yX9_mean cX9_mean 5 (Option.some Jvm.ClassFile.FieldType.long)) rmX9_mean_p6 [.ref (ad 1496)] σ (some (.long r_)) σ := by
  subst e_zI1262
  subst e_zI2012
  subst e_zI2013
  subst e_zI2027
  subst e_zI2032
  subst e_aI1170
  subst e_aI1265
  subst e_aI2037
  subst e_aI2043
  subst e_aL1140
  subst e_nN0
  subst e_nN1
  subst e_nN2
  subst e_pR2
  subst e_pR5
  subst e_pR6
  subst e_pW1
  subst e_pW2
  subst e_pU0
  subst e_pU1
  subst e_pU2
  subst e_pU3
  subst e_gG0
  exact p_ctG (by decide +kernel) (Nat.le_of_ble_eq_true rfl) (fun p e s m below meth c0 ls A E hP hX hA hS hl => wkX9_mean_p6 E hX hD hA hf rfl hP hS hl)
/-! X9_worst_p0 ()I -/
abbrev rmX9_worst_p0 : Room := { frames := 48, cells := 0, slots := 0, locals := 1314 }
set_option maxHeartbeats 4000000 in
theorem wkX9_worst_p0 {r_ : Int32} (E : EN p s m args meth c0 RX9 cX9_worst 4 (Option.some Jvm.ClassFile.FieldType.int)) (hX : KX D G ad A s s.heap) (hD : XD dsc nr nw nu) (hA : ∀ q, PA dsc ad s.heap.size q → A q) (hf : xo_X9_worst_p0 (σ.1 1062) (σ.1 2008) (σ.1 2012) (σ.1 2013) (σ.1 2027) (σ.1 2032) (σ.2.1 1061) (σ.2.2.1 1170) (σ.2.2.1 2037) (σ.2.2.1 2043) (σ.2.2.2.1 1140) (σ.2.2.2.1 1141) (σ.2.2.2.1 1150) nr nw (fun k => σ.1 (6000 + 16 * k + 2)) (fun k => σ.1 (6000 + 16 * k + 5)) (fun k => σ.1 (6000 + 16 * k + 6)) (fun k => σ.1 (8000 + 16 * k + 0)) (fun k => σ.1 (8000 + 16 * k + 1)) (fun k => σ.1 (8000 + 16 * k + 2)) (fun k => σ.2.2.1 (4000 + 16 * k)) = some r_) (hQ : Q = MQ below (va_G1 (some (.int r_)) (fun t => PIC D clsA G dsc ad σ t.heap) A) args s 0 0 A) (hP : PIC D clsA G dsc ad σ H) (hS : va_S A s.heap H locs) (hl : lv_has ls 4 [(0, .ref (ad 1400))]) : W p l e rmX9_worst_p0 s m args below meth c0 H locs 0 0 Q (F0 m 0 ls []) := by
  obtain ⟨⟨hx, hb, hml, hown, hts⟩, hr, hlk⟩ := id E
  unfold xo_X9_worst_p0 at hf
  refine lv_iconst hx hb dX9_worst_0 ic_0 ?_
  refine lv_istore_n (lv' := [(1, .int 0), (0, .ref (ad 1400))]) hx hb dX9_worst_1 rfl hl (by decide) rfl (fun ls hl => ?_)
  refine lv_iconst hx hb dX9_worst_2 ic_0 ?_
  refine lv_istore_n (lv' := [(2, .int 0), (1, .int 0), (0, .ref (ad 1400))]) hx hb dX9_worst_3 rfl hl (by decide) rfl (fun ls hl => ?_)
  have LP4 : ∀ (st4 : Int32 × Int32) (ex4 : (Unit) ⊕ (Int32)), loop (xo_X9_worst_p0_L4 (σ.1 1062) (σ.1 2008) (σ.1 2012) (σ.1 2013) (σ.1 2027) (σ.1 2032) (σ.2.1 1061) (σ.2.2.1 1170) (σ.2.2.1 2037) (σ.2.2.1 2043) (σ.2.2.2.1 1140) (σ.2.2.2.1 1141) (σ.2.2.2.1 1150) nr nw (fun k => σ.1 (6000 + 16 * k + 2)) (fun k => σ.1 (6000 + 16 * k + 5)) (fun k => σ.1 (6000 + 16 * k + 6)) (fun k => σ.1 (8000 + 16 * k + 0)) (fun k => σ.1 (8000 + 16 * k + 1)) (fun k => σ.1 (8000 + 16 * k + 2)) (fun k => σ.2.2.1 (4000 + 16 * k))) st4 = some ex4 → ∀ (H : Heap) (locs : List Loc), PIC D clsA G dsc ad σ H → va_S A s.heap H locs → ∀ (ls : Array Slot), lv_has ls 4 [(0, .ref (ad 1400)), (1, .int (st4.1)), (2, .int (st4.2))] → (ex4 = (.inl (())) → ∀ (H : Heap) (locs : List Loc), PIC D clsA G dsc ad σ H → va_S A s.heap H locs → ∀ (ls : Array Slot), lv_has ls 4 [] → W p l e rmX9_worst_p0 s m args below meth c0 H locs 0 0 Q (F0 m 50 ls [])) → (∀ (y14 : Int32), ex4 = (.inr y14) → ∀ (H : Heap) (locs : List Loc), PIC D clsA G dsc ad σ H → va_S A s.heap H locs → ∀ (ls : Array Slot), lv_has ls 4 [(1, .int y14)] → W p l e rmX9_worst_p0 s m args below meth c0 H locs 0 0 Q (F0 m 65 ls [])) → W p l e rmX9_worst_p0 s m args below meth c0 H locs 0 0 Q (F0 m 4 ls []) := by
    refine loop_P (fun st4 ex4 o4 hf ih4 hx4 => ?_)
    obtain ⟨y1, y2⟩ := st4
    intro H locs (hP : PIC D clsA G dsc ad σ H) hS ls (hl : lv_has ls 4 [(0, .ref (ad 1400)), (1, .int y1), (2, .int y2)]) KE4_0 KE4_1
    dsimp only [xo_X9_worst_p0_L4] at hf
    refine lv_iload_n hx hb dX9_worst_4 rfl (lv_at hl 2 rfl) ?_
    refine lv_aload_n hx hb dX9_worst_5 rfl (lv_at hl 0 rfl) ?_
    refine gx_X9_3_1400 E hX hD hP dX9_worst_6 ?_
    refine gx_X9_15_1000 E hX hD hP dX9_worst_9 ?_
    obtain ⟨v3, u4, hf⟩ := bdP hf
    refine cx_X9_60_X3_worlds E hX hD hP hS hA (kxX3_worlds l D G hD rfl u4) ⟨rfl, rfl⟩ ⟨Nat.le_of_ble_eq_true rfl, Nat.le_of_ble_eq_true rfl⟩ ⟨Nat.zero_le _, Nat.zero_le _⟩ hl.1 (Nat.le_of_ble_eq_true rfl) dX9_worst_12 (fun H locs hP hS => ?_)
    refine lv_icmp_ge (tgt := 65) hx hb dX9_worst_15 (by decide) (fun c5 => ?_) (fun c5 => ?_)
    · have hf := ifT c5 hf
      exact KE4_1 _ (hx4 _ (Option.some.inj hf).symm).symm H locs hP hS ls (lv_sub hl [1] rfl)
    · have hf := ifF c5 hf
      refine lv_aload_n hx hb dX9_worst_18 rfl (lv_at hl 0 rfl) ?_
      refine gx_X9_3_1400 E hX hD hP dX9_worst_19 ?_
      refine gx_X9_64_1000 E hX hD hP dX9_worst_22 ?_
      refine gx_X9_68_1050 E hX hD hP dX9_worst_25 ?_
      refine lv_iload_n hx hb dX9_worst_28 rfl (lv_at hl 2 rfl) ?_
      obtain ⟨v6, hv6, hf⟩ := bdP hf
      refine p_lald hx hb hX.1 hP (hD.1 _ _ dX_1140) rfl hv6 dX9_worst_29 ?_
      refine lv_lconst hx hb dX9_worst_30 lc_0 ?_
      refine W.lcmp hx hb dX9_worst_31 ?_
      have J59 : ∀ (y7 : Int32), xo_X9_worst_p0_J59 y2 y7 = some o4 → ∀ (H : Heap) (locs : List Loc), PIC D clsA G dsc ad σ H → va_S A s.heap H locs → ∀ (ls : Array Slot), lv_has ls 4 [(0, .ref (ad 1400)), (1, .int y7), (2, .int y2)] → W p l e rmX9_worst_p0 s m args below meth c0 H locs 0 0 Q (F0 m 59 ls []) := by
        intro y7 hf H locs hP hS ls hl
        unfold xo_X9_worst_p0_J59 at hf
        obtain ⟨v8, hv8, hf⟩ := bdP hf
        refine lv_iinc (v := v8) (lv' := [(2, .int v8), (0, .ref (ad 1400)), (1, .int y7)]) hx hb dX9_worst_59 hl (k := 2) rfl (Option.some.inj hv8) (by decide) rfl (fun ls hl => ?_)
        refine lv_goto (tgt := 4) hx hb dX9_worst_62 (by decide) ?_
        exact ih4 _ (Option.some.inj hf).symm H locs hP hS ls (lv_sub hl [1, 2, 0] rfl) KE4_0 KE4_1
      refine lv_if_ne (tgt := 38) hx hb dX9_worst_32 (by decide) (fun c9 => ?_) (fun c9 => ?_)
      · have hf := ifF (mt (lgc_eq _ _).mpr c9) hf
        refine lv_aload_n hx hb dX9_worst_38 rfl (lv_at hl 0 rfl) ?_
        refine lv_iload_n hx hb dX9_worst_39 rfl (lv_at hl 2 rfl) ?_
        obtain ⟨v10, u11, hf⟩ := bdP hf
        refine cx_X9_74_X9_hours_p0 E hX hD hP hS hA (kxX9_hours_p0 l D G hD rfl rfl rfl rfl rfl rfl rfl rfl rfl rfl rfl rfl rfl rfl rfl rfl rfl rfl rfl rfl rfl u11) ⟨rfl, rfl⟩ ⟨Nat.le_of_ble_eq_true rfl, Nat.le_of_ble_eq_true rfl⟩ ⟨Nat.zero_le _, Nat.zero_le _⟩ hl.1 (Nat.le_of_ble_eq_true rfl) dX9_worst_40 (fun H locs hP hS => ?_)
        refine lv_istore_n (lv' := [(3, .int v10), (0, .ref (ad 1400)), (1, .int y1), (2, .int y2)]) hx hb dX9_worst_43 rfl hl (by decide) rfl (fun ls hl => ?_)
        refine lv_iload_n hx hb dX9_worst_44 rfl (lv_at hl 0 rfl) ?_
        refine lv_bipush hx hb dX9_worst_45 bp_m2 ?_
        refine lv_icmp_ne (tgt := 53) hx hb dX9_worst_47 (by decide) (fun c12 => ?_) (fun c12 => ?_)
        · have hf := ifF c12 hf
          refine lv_iload_n hx hb dX9_worst_53 rfl (lv_at hl 2 rfl) ?_
          refine lv_iload_n hx hb dX9_worst_54 rfl (lv_at hl 0 rfl) ?_
          refine va_mmax hx hb (hml.trans hl.1.symm) hown (hts _ q1317) (hts _ q892) (hts _ q152) (hts _ q893) (Nat.le_of_ble_eq_true rfl) (Nat.le_of_ble_eq_true rfl) (Nat.zero_le _) (Nat.zero_le _) dX9_worst_55 ?_
          obtain ⟨v13, hv13, hf⟩ := bdP hf
          refine nm_i (Option.some.inj hv13) ?_
          refine lv_istore_n (lv' := [(1, .int v13), (3, .int v10), (0, .ref (ad 1400)), (2, .int y2)]) hx hb dX9_worst_58 rfl hl (by decide) rfl (fun ls hl => ?_)
          exact J59 v13 hf H locs hP hS ls (lv_sub hl [2, 0, 3] rfl)
        · have hf := ifT c12 hf
          exact KE4_0  (hx4 _ (Option.some.inj hf).symm).symm H locs hP hS ls (lv_sub hl [] rfl)
      · have hf := ifT ((lgc_eq _ _).mp c9) hf
        refine lv_goto (tgt := 59) hx hb dX9_worst_35 (by decide) ?_
        exact J59 y1 hf H locs hP hS ls (lv_sub hl [0, 1, 2] rfl)
  obtain ⟨ex4, hlp4, hf⟩ := bdP hf
  refine LP4 (0, 0) ex4 hlp4 H locs hP hS ls (lv_sub hl [2, 1, 0] rfl) ?_ ?_
  · intro  hex4 H locs hP hS ls hl
    subst ex4
    dsimp only [sE_l, sE_r] at hf
    refine lv_bipush hx hb dX9_worst_50 bp_m2 ?_
    cases hf
    rw [hQ]; exact g_iret hx hb hr hlk hP hS dX9_worst_52
  · intro y14 hex4 H locs hP hS ls hl
    subst ex4
    dsimp only [sE_l, sE_r] at hf
    refine lv_iload_n hx hb dX9_worst_65 rfl (lv_at hl 0 rfl) ?_
    cases hf
    rw [hQ]; exact g_iret hx hb hr hlk hP hS dX9_worst_66
theorem kxX9_worst_p0 (l : Launch) (D : va_G) (G : Nat → ClassId) {dsc : Nat → Option Dsc} {ad : Nat → Nat} {σ : Sto} {nr nw nu : Nat} (hD : XD dsc nr nw nu) {r_ : Int32} {z_TB_by : Int32} (e_zI1062 : σ.1 1062 = z_TB_by) {z_L_places : Int32} (e_zI2008 : σ.1 2008 = z_L_places) {z_L_from : Int32} (e_zI2012 : σ.1 2012 = z_L_from) {z_L_to : Int32} (e_zI2013 : σ.1 2013 = z_L_to) {z_Ld_size : Int32} (e_zI2027 : σ.1 2027 = z_Ld_size) {z_Lw_size : Int32} (e_zI2032 : σ.1 2032 = z_Lw_size) {z_TB_none : Int64} (e_zL1061 : σ.2.1 1061 = z_TB_none) {a_UNIT : Nat → Int32} (e_aI1170 : σ.2.2.1 1170 = a_UNIT) {a_Lw_data : Nat → Int32} (e_aI2037 : σ.2.2.1 2037 = a_Lw_data) {a_L_seen : Nat → Int32} (e_aI2043 : σ.2.2.1 2043 = a_L_seen) {a_W_world : Nat → Int64} (e_aL1140 : σ.2.2.2.1 1140 = a_W_world) {a_W_likely : Nat → Int64} (e_aL1141 : σ.2.2.2.1 1141 = a_W_likely) {a_TB_value : Nat → Int64} (e_aL1150 : σ.2.2.2.1 1150 = a_TB_value) {n_r : Nat} (e_nN0 : nr = n_r) {n_w : Nat} (e_nN1 : nw = n_w) {p_road_hours : Nat → Int32} (e_pR2 : (fun k => σ.1 (6000 + 16 * k + 2)) = p_road_hours) {p_road_wait : Nat → Int32} (e_pR5 : (fun k => σ.1 (6000 + 16 * k + 5)) = p_road_wait) {p_road_number : Nat → Int32} (e_pR6 : (fun k => σ.1 (6000 + 16 * k + 6)) = p_road_number) {p_word_place : Nat → Int32} (e_pW0 : (fun k => σ.1 (8000 + 16 * k + 0)) = p_word_place) {p_word_road : Nat → Int32} (e_pW1 : (fun k => σ.1 (8000 + 16 * k + 1)) = p_word_road) {p_word_hours : Nat → Int32} (e_pW2 : (fun k => σ.1 (8000 + 16 * k + 2)) = p_word_hours) {g_grid : Nat → Nat → Int32} (e_gG0 : (fun k => σ.2.2.1 (4000 + 16 * k)) = g_grid) (hf : xo_X9_worst_p0 z_TB_by z_L_places z_L_from z_L_to z_Ld_size z_Lw_size z_TB_none a_UNIT a_Lw_data a_L_seen a_W_world a_W_likely a_TB_value n_r n_w p_road_hours p_road_wait p_road_number p_word_place p_word_road p_word_hours g_grid = some r_) : CtG l D G dsc ad yX9_worst (ws_ yX9_worst cX9_worst 4 (Option.some Jvm.ClassFile.FieldType.int)) rmX9_worst_p0 [.ref (ad 1400)] σ (some (.int r_)) σ := by
  subst e_zI1062
  subst e_zI2008
  subst e_zI2012
  subst e_zI2013
  subst e_zI2027
  subst e_zI2032
  subst e_zL1061
  subst e_aI1170
  subst e_aI2037
  subst e_aI2043
  subst e_aL1140
  subst e_aL1141
  subst e_aL1150
  subst e_nN0
  subst e_nN1
  subst e_pR2
  subst e_pR5
  subst e_pR6
  subst e_pW0
  subst e_pW1
  subst e_pW2
  subst e_gG0
  exact p_ctG (by decide +kernel) (Nat.le_of_ble_eq_true rfl) (fun p e s m below meth c0 ls A E hP hX hA hS hl => wkX9_worst_p0 E hX hD hA hf rfl hP hS hl)
/-! X9_worst_p1 ()I -/
abbrev rmX9_worst_p1 : Room := { frames := 48, cells := 0, slots := 0, locals := 1316 }
set_option maxHeartbeats 4000000 in
theorem wkX9_worst_p1 {r_ : Int32} (E : EN p s m args meth c0 RX9 cX9_worst 4 (Option.some Jvm.ClassFile.FieldType.int)) (hX : KX D G ad A s s.heap) (hD : XD dsc nr nw nu) (hA : ∀ q, PA dsc ad s.heap.size q → A q) (hf : xo_X9_worst_p1 (σ.1 1082) (σ.1 2008) (σ.1 2012) (σ.1 2013) (σ.1 2027) (σ.1 2032) (σ.2.1 1081) (σ.2.2.1 1170) (σ.2.2.1 2037) (σ.2.2.1 2043) (σ.2.2.2.1 1140) (σ.2.2.2.1 1141) (σ.2.2.2.1 1152) nr nw (fun k => σ.1 (6000 + 16 * k + 2)) (fun k => σ.1 (6000 + 16 * k + 5)) (fun k => σ.1 (6000 + 16 * k + 6)) (fun k => σ.1 (8000 + 16 * k + 0)) (fun k => σ.1 (8000 + 16 * k + 1)) (fun k => σ.1 (8000 + 16 * k + 2)) (fun k => σ.2.2.1 (4000 + 16 * k)) = some r_) (hQ : Q = MQ below (va_G1 (some (.int r_)) (fun t => PIC D clsA G dsc ad σ t.heap) A) args s 0 0 A) (hP : PIC D clsA G dsc ad σ H) (hS : va_S A s.heap H locs) (hl : lv_has ls 4 [(0, .ref (ad 1416))]) : W p l e rmX9_worst_p1 s m args below meth c0 H locs 0 0 Q (F0 m 0 ls []) := by
  obtain ⟨⟨hx, hb, hml, hown, hts⟩, hr, hlk⟩ := id E
  unfold xo_X9_worst_p1 at hf
  refine lv_iconst hx hb dX9_worst_0 ic_0 ?_
  refine lv_istore_n (lv' := [(1, .int 0), (0, .ref (ad 1416))]) hx hb dX9_worst_1 rfl hl (by decide) rfl (fun ls hl => ?_)
  refine lv_iconst hx hb dX9_worst_2 ic_0 ?_
  refine lv_istore_n (lv' := [(2, .int 0), (1, .int 0), (0, .ref (ad 1416))]) hx hb dX9_worst_3 rfl hl (by decide) rfl (fun ls hl => ?_)
  have LP4 : ∀ (st4 : Int32 × Int32) (ex4 : (Unit) ⊕ (Int32)), loop (xo_X9_worst_p1_L4 (σ.1 1082) (σ.1 2008) (σ.1 2012) (σ.1 2013) (σ.1 2027) (σ.1 2032) (σ.2.1 1081) (σ.2.2.1 1170) (σ.2.2.1 2037) (σ.2.2.1 2043) (σ.2.2.2.1 1140) (σ.2.2.2.1 1141) (σ.2.2.2.1 1152) nr nw (fun k => σ.1 (6000 + 16 * k + 2)) (fun k => σ.1 (6000 + 16 * k + 5)) (fun k => σ.1 (6000 + 16 * k + 6)) (fun k => σ.1 (8000 + 16 * k + 0)) (fun k => σ.1 (8000 + 16 * k + 1)) (fun k => σ.1 (8000 + 16 * k + 2)) (fun k => σ.2.2.1 (4000 + 16 * k))) st4 = some ex4 → ∀ (H : Heap) (locs : List Loc), PIC D clsA G dsc ad σ H → va_S A s.heap H locs → ∀ (ls : Array Slot), lv_has ls 4 [(0, .ref (ad 1416)), (1, .int (st4.1)), (2, .int (st4.2))] → (ex4 = (.inl (())) → ∀ (H : Heap) (locs : List Loc), PIC D clsA G dsc ad σ H → va_S A s.heap H locs → ∀ (ls : Array Slot), lv_has ls 4 [] → W p l e rmX9_worst_p1 s m args below meth c0 H locs 0 0 Q (F0 m 50 ls [])) → (∀ (y14 : Int32), ex4 = (.inr y14) → ∀ (H : Heap) (locs : List Loc), PIC D clsA G dsc ad σ H → va_S A s.heap H locs → ∀ (ls : Array Slot), lv_has ls 4 [(1, .int y14)] → W p l e rmX9_worst_p1 s m args below meth c0 H locs 0 0 Q (F0 m 65 ls [])) → W p l e rmX9_worst_p1 s m args below meth c0 H locs 0 0 Q (F0 m 4 ls []) := by
    refine loop_P (fun st4 ex4 o4 hf ih4 hx4 => ?_)
    obtain ⟨y1, y2⟩ := st4
    intro H locs (hP : PIC D clsA G dsc ad σ H) hS ls (hl : lv_has ls 4 [(0, .ref (ad 1416)), (1, .int y1), (2, .int y2)]) KE4_0 KE4_1
    dsimp only [xo_X9_worst_p1_L4] at hf
    refine lv_iload_n hx hb dX9_worst_4 rfl (lv_at hl 2 rfl) ?_
    refine lv_aload_n hx hb dX9_worst_5 rfl (lv_at hl 0 rfl) ?_
    refine gx_X9_3_1416 E hX hD hP dX9_worst_6 ?_
    refine gx_X9_15_1000 E hX hD hP dX9_worst_9 ?_
    obtain ⟨v3, u4, hf⟩ := bdP hf
    refine cx_X9_60_X3_worlds E hX hD hP hS hA (kxX3_worlds l D G hD rfl u4) ⟨rfl, rfl⟩ ⟨Nat.le_of_ble_eq_true rfl, Nat.le_of_ble_eq_true rfl⟩ ⟨Nat.zero_le _, Nat.zero_le _⟩ hl.1 (Nat.le_of_ble_eq_true rfl) dX9_worst_12 (fun H locs hP hS => ?_)
    refine lv_icmp_ge (tgt := 65) hx hb dX9_worst_15 (by decide) (fun c5 => ?_) (fun c5 => ?_)
    · have hf := ifT c5 hf
      exact KE4_1 _ (hx4 _ (Option.some.inj hf).symm).symm H locs hP hS ls (lv_sub hl [1] rfl)
    · have hf := ifF c5 hf
      refine lv_aload_n hx hb dX9_worst_18 rfl (lv_at hl 0 rfl) ?_
      refine gx_X9_3_1416 E hX hD hP dX9_worst_19 ?_
      refine gx_X9_64_1000 E hX hD hP dX9_worst_22 ?_
      refine gx_X9_68_1050 E hX hD hP dX9_worst_25 ?_
      refine lv_iload_n hx hb dX9_worst_28 rfl (lv_at hl 2 rfl) ?_
      obtain ⟨v6, hv6, hf⟩ := bdP hf
      refine p_lald hx hb hX.1 hP (hD.1 _ _ dX_1140) rfl hv6 dX9_worst_29 ?_
      refine lv_lconst hx hb dX9_worst_30 lc_0 ?_
      refine W.lcmp hx hb dX9_worst_31 ?_
      have J59 : ∀ (y7 : Int32), xo_X9_worst_p1_J59 y2 y7 = some o4 → ∀ (H : Heap) (locs : List Loc), PIC D clsA G dsc ad σ H → va_S A s.heap H locs → ∀ (ls : Array Slot), lv_has ls 4 [(0, .ref (ad 1416)), (1, .int y7), (2, .int y2)] → W p l e rmX9_worst_p1 s m args below meth c0 H locs 0 0 Q (F0 m 59 ls []) := by
        intro y7 hf H locs hP hS ls hl
        unfold xo_X9_worst_p1_J59 at hf
        obtain ⟨v8, hv8, hf⟩ := bdP hf
        refine lv_iinc (v := v8) (lv' := [(2, .int v8), (0, .ref (ad 1416)), (1, .int y7)]) hx hb dX9_worst_59 hl (k := 2) rfl (Option.some.inj hv8) (by decide) rfl (fun ls hl => ?_)
        refine lv_goto (tgt := 4) hx hb dX9_worst_62 (by decide) ?_
        exact ih4 _ (Option.some.inj hf).symm H locs hP hS ls (lv_sub hl [1, 2, 0] rfl) KE4_0 KE4_1
      refine lv_if_ne (tgt := 38) hx hb dX9_worst_32 (by decide) (fun c9 => ?_) (fun c9 => ?_)
      · have hf := ifF (mt (lgc_eq _ _).mpr c9) hf
        refine lv_aload_n hx hb dX9_worst_38 rfl (lv_at hl 0 rfl) ?_
        refine lv_iload_n hx hb dX9_worst_39 rfl (lv_at hl 2 rfl) ?_
        obtain ⟨v10, u11, hf⟩ := bdP hf
        refine cx_X9_74_X9_hours_p1 E hX hD hP hS hA (kxX9_hours_p1 l D G hD rfl rfl rfl rfl rfl rfl rfl rfl rfl rfl rfl rfl rfl rfl rfl rfl rfl rfl rfl rfl rfl u11) ⟨rfl, rfl⟩ ⟨Nat.le_of_ble_eq_true rfl, Nat.le_of_ble_eq_true rfl⟩ ⟨Nat.zero_le _, Nat.zero_le _⟩ hl.1 (Nat.le_of_ble_eq_true rfl) dX9_worst_40 (fun H locs hP hS => ?_)
        refine lv_istore_n (lv' := [(3, .int v10), (0, .ref (ad 1416)), (1, .int y1), (2, .int y2)]) hx hb dX9_worst_43 rfl hl (by decide) rfl (fun ls hl => ?_)
        refine lv_iload_n hx hb dX9_worst_44 rfl (lv_at hl 0 rfl) ?_
        refine lv_bipush hx hb dX9_worst_45 bp_m2 ?_
        refine lv_icmp_ne (tgt := 53) hx hb dX9_worst_47 (by decide) (fun c12 => ?_) (fun c12 => ?_)
        · have hf := ifF c12 hf
          refine lv_iload_n hx hb dX9_worst_53 rfl (lv_at hl 2 rfl) ?_
          refine lv_iload_n hx hb dX9_worst_54 rfl (lv_at hl 0 rfl) ?_
          refine va_mmax hx hb (hml.trans hl.1.symm) hown (hts _ q1317) (hts _ q892) (hts _ q152) (hts _ q893) (Nat.le_of_ble_eq_true rfl) (Nat.le_of_ble_eq_true rfl) (Nat.zero_le _) (Nat.zero_le _) dX9_worst_55 ?_
          obtain ⟨v13, hv13, hf⟩ := bdP hf
          refine nm_i (Option.some.inj hv13) ?_
          refine lv_istore_n (lv' := [(1, .int v13), (3, .int v10), (0, .ref (ad 1416)), (2, .int y2)]) hx hb dX9_worst_58 rfl hl (by decide) rfl (fun ls hl => ?_)
          exact J59 v13 hf H locs hP hS ls (lv_sub hl [2, 0, 3] rfl)
        · have hf := ifT c12 hf
          exact KE4_0  (hx4 _ (Option.some.inj hf).symm).symm H locs hP hS ls (lv_sub hl [] rfl)
      · have hf := ifT ((lgc_eq _ _).mp c9) hf
        refine lv_goto (tgt := 59) hx hb dX9_worst_35 (by decide) ?_
        exact J59 y1 hf H locs hP hS ls (lv_sub hl [0, 1, 2] rfl)
  obtain ⟨ex4, hlp4, hf⟩ := bdP hf
  refine LP4 (0, 0) ex4 hlp4 H locs hP hS ls (lv_sub hl [2, 1, 0] rfl) ?_ ?_
  · intro  hex4 H locs hP hS ls hl
    subst ex4
    dsimp only [sE_l, sE_r] at hf
    refine lv_bipush hx hb dX9_worst_50 bp_m2 ?_
    cases hf
    rw [hQ]; exact g_iret hx hb hr hlk hP hS dX9_worst_52
  · intro y14 hex4 H locs hP hS ls hl
    subst ex4
    dsimp only [sE_l, sE_r] at hf
    refine lv_iload_n hx hb dX9_worst_65 rfl (lv_at hl 0 rfl) ?_
    cases hf
    rw [hQ]; exact g_iret hx hb hr hlk hP hS dX9_worst_66
theorem kxX9_worst_p1 (l : Launch) (D : va_G) (G : Nat → ClassId) {dsc : Nat → Option Dsc} {ad : Nat → Nat} {σ : Sto} {nr nw nu : Nat} (hD : XD dsc nr nw nu) {r_ : Int32} {z_TS_by : Int32} (e_zI1082 : σ.1 1082 = z_TS_by) {z_L_places : Int32} (e_zI2008 : σ.1 2008 = z_L_places) {z_L_from : Int32} (e_zI2012 : σ.1 2012 = z_L_from) {z_L_to : Int32} (e_zI2013 : σ.1 2013 = z_L_to) {z_Ld_size : Int32} (e_zI2027 : σ.1 2027 = z_Ld_size) {z_Lw_size : Int32} (e_zI2032 : σ.1 2032 = z_Lw_size) {z_TS_none : Int64} (e_zL1081 : σ.2.1 1081 = z_TS_none) {a_UNIT : Nat → Int32} (e_aI1170 : σ.2.2.1 1170 = a_UNIT) {a_Lw_data : Nat → Int32} (e_aI2037 : σ.2.2.1 2037 = a_Lw_data) {a_L_seen : Nat → Int32} (e_aI2043 : σ.2.2.1 2043 = a_L_seen) {a_W_world : Nat → Int64} (e_aL1140 : σ.2.2.2.1 1140 = a_W_world) {a_W_likely : Nat → Int64} (e_aL1141 : σ.2.2.2.1 1141 = a_W_likely) {a_TS_value : Nat → Int64} (e_aL1152 : σ.2.2.2.1 1152 = a_TS_value) {n_r : Nat} (e_nN0 : nr = n_r) {n_w : Nat} (e_nN1 : nw = n_w) {p_road_hours : Nat → Int32} (e_pR2 : (fun k => σ.1 (6000 + 16 * k + 2)) = p_road_hours) {p_road_wait : Nat → Int32} (e_pR5 : (fun k => σ.1 (6000 + 16 * k + 5)) = p_road_wait) {p_road_number : Nat → Int32} (e_pR6 : (fun k => σ.1 (6000 + 16 * k + 6)) = p_road_number) {p_word_place : Nat → Int32} (e_pW0 : (fun k => σ.1 (8000 + 16 * k + 0)) = p_word_place) {p_word_road : Nat → Int32} (e_pW1 : (fun k => σ.1 (8000 + 16 * k + 1)) = p_word_road) {p_word_hours : Nat → Int32} (e_pW2 : (fun k => σ.1 (8000 + 16 * k + 2)) = p_word_hours) {g_grid : Nat → Nat → Int32} (e_gG0 : (fun k => σ.2.2.1 (4000 + 16 * k)) = g_grid) (hf : xo_X9_worst_p1 z_TS_by z_L_places z_L_from z_L_to z_Ld_size z_Lw_size z_TS_none a_UNIT a_Lw_data a_L_seen a_W_world a_W_likely a_TS_value n_r n_w p_road_hours p_road_wait p_road_number p_word_place p_word_road p_word_hours g_grid = some r_) : CtG l D G dsc ad yX9_worst (ws_ yX9_worst cX9_worst 4 (Option.some Jvm.ClassFile.FieldType.int)) rmX9_worst_p1 [.ref (ad 1416)] σ (some (.int r_)) σ := by
  subst e_zI1082
  subst e_zI2008
  subst e_zI2012
  subst e_zI2013
  subst e_zI2027
  subst e_zI2032
  subst e_zL1081
  subst e_aI1170
  subst e_aI2037
  subst e_aI2043
  subst e_aL1140
  subst e_aL1141
  subst e_aL1152
  subst e_nN0
  subst e_nN1
  subst e_pR2
  subst e_pR5
  subst e_pR6
  subst e_pW0
  subst e_pW1
  subst e_pW2
  subst e_gG0
  exact p_ctG (by decide +kernel) (Nat.le_of_ble_eq_true rfl) (fun p e s m below meth c0 ls A E hP hX hA hS hl => wkX9_worst_p1 E hX hD hA hf rfl hP hS hl)
/-! X9_worst_p2 ()I -/
abbrev rmX9_worst_p2 : Room := { frames := 49, cells := 0, slots := 0, locals := 1337 }
set_option maxHeartbeats 4000000 in
theorem wkX9_worst_p2 {r_ : Int32} (E : EN p s m args meth c0 RX9 cX9_worst 4 (Option.some Jvm.ClassFile.FieldType.int)) (hX : KX D G ad A s s.heap) (hD : XD dsc nr nw nu) (hA : ∀ q, PA dsc ad s.heap.size q → A q) (hf : xo_X9_worst_p2 (σ.1 1092) (σ.1 1094) (σ.1 1095) (σ.1 2008) (σ.1 2012) (σ.1 2013) (σ.1 2027) (σ.1 2032) (σ.2.1 1091) (σ.2.2.1 1108) (σ.2.2.1 1170) (σ.2.2.1 2037) (σ.2.2.1 2043) (σ.2.2.2.1 1140) (σ.2.2.2.1 1141) (σ.2.2.2.1 1153) nr nw (fun k => σ.1 (6000 + 16 * k + 2)) (fun k => σ.1 (6000 + 16 * k + 5)) (fun k => σ.1 (6000 + 16 * k + 6)) (fun k => σ.1 (8000 + 16 * k + 0)) (fun k => σ.1 (8000 + 16 * k + 1)) (fun k => σ.1 (8000 + 16 * k + 2)) (fun k => σ.2.2.1 (4000 + 16 * k)) = some r_) (hQ : Q = MQ below (va_G1 (some (.int r_)) (fun t => PIC D clsA G dsc ad σ t.heap) A) args s 0 0 A) (hP : PIC D clsA G dsc ad σ H) (hS : va_S A s.heap H locs) (hl : lv_has ls 4 [(0, .ref (ad 1432))]) : W p l e rmX9_worst_p2 s m args below meth c0 H locs 0 0 Q (F0 m 0 ls []) := by
  obtain ⟨⟨hx, hb, hml, hown, hts⟩, hr, hlk⟩ := id E
  unfold xo_X9_worst_p2 at hf
  refine lv_iconst hx hb dX9_worst_0 ic_0 ?_
  refine lv_istore_n (lv' := [(1, .int 0), (0, .ref (ad 1432))]) hx hb dX9_worst_1 rfl hl (by decide) rfl (fun ls hl => ?_)
  refine lv_iconst hx hb dX9_worst_2 ic_0 ?_
  refine lv_istore_n (lv' := [(2, .int 0), (1, .int 0), (0, .ref (ad 1432))]) hx hb dX9_worst_3 rfl hl (by decide) rfl (fun ls hl => ?_)
  have LP4 : ∀ (st4 : Int32 × Int32) (ex4 : (Unit) ⊕ (Int32)), loop (xo_X9_worst_p2_L4 (σ.1 1092) (σ.1 1094) (σ.1 1095) (σ.1 2008) (σ.1 2012) (σ.1 2013) (σ.1 2027) (σ.1 2032) (σ.2.1 1091) (σ.2.2.1 1108) (σ.2.2.1 1170) (σ.2.2.1 2037) (σ.2.2.1 2043) (σ.2.2.2.1 1140) (σ.2.2.2.1 1141) (σ.2.2.2.1 1153) nr nw (fun k => σ.1 (6000 + 16 * k + 2)) (fun k => σ.1 (6000 + 16 * k + 5)) (fun k => σ.1 (6000 + 16 * k + 6)) (fun k => σ.1 (8000 + 16 * k + 0)) (fun k => σ.1 (8000 + 16 * k + 1)) (fun k => σ.1 (8000 + 16 * k + 2)) (fun k => σ.2.2.1 (4000 + 16 * k))) st4 = some ex4 → ∀ (H : Heap) (locs : List Loc), PIC D clsA G dsc ad σ H → va_S A s.heap H locs → ∀ (ls : Array Slot), lv_has ls 4 [(0, .ref (ad 1432)), (1, .int (st4.1)), (2, .int (st4.2))] → (ex4 = (.inl (())) → ∀ (H : Heap) (locs : List Loc), PIC D clsA G dsc ad σ H → va_S A s.heap H locs → ∀ (ls : Array Slot), lv_has ls 4 [] → W p l e rmX9_worst_p2 s m args below meth c0 H locs 0 0 Q (F0 m 50 ls [])) → (∀ (y14 : Int32), ex4 = (.inr y14) → ∀ (H : Heap) (locs : List Loc), PIC D clsA G dsc ad σ H → va_S A s.heap H locs → ∀ (ls : Array Slot), lv_has ls 4 [(1, .int y14)] → W p l e rmX9_worst_p2 s m args below meth c0 H locs 0 0 Q (F0 m 65 ls [])) → W p l e rmX9_worst_p2 s m args below meth c0 H locs 0 0 Q (F0 m 4 ls []) := by
    refine loop_P (fun st4 ex4 o4 hf ih4 hx4 => ?_)
    obtain ⟨y1, y2⟩ := st4
    intro H locs (hP : PIC D clsA G dsc ad σ H) hS ls (hl : lv_has ls 4 [(0, .ref (ad 1432)), (1, .int y1), (2, .int y2)]) KE4_0 KE4_1
    dsimp only [xo_X9_worst_p2_L4] at hf
    refine lv_iload_n hx hb dX9_worst_4 rfl (lv_at hl 2 rfl) ?_
    refine lv_aload_n hx hb dX9_worst_5 rfl (lv_at hl 0 rfl) ?_
    refine gx_X9_3_1432 E hX hD hP dX9_worst_6 ?_
    refine gx_X9_15_1000 E hX hD hP dX9_worst_9 ?_
    obtain ⟨v3, u4, hf⟩ := bdP hf
    refine cx_X9_60_X3_worlds E hX hD hP hS hA (kxX3_worlds l D G hD rfl u4) ⟨rfl, rfl⟩ ⟨Nat.le_of_ble_eq_true rfl, Nat.le_of_ble_eq_true rfl⟩ ⟨Nat.zero_le _, Nat.zero_le _⟩ hl.1 (Nat.le_of_ble_eq_true rfl) dX9_worst_12 (fun H locs hP hS => ?_)
    refine lv_icmp_ge (tgt := 65) hx hb dX9_worst_15 (by decide) (fun c5 => ?_) (fun c5 => ?_)
    · have hf := ifT c5 hf
      exact KE4_1 _ (hx4 _ (Option.some.inj hf).symm).symm H locs hP hS ls (lv_sub hl [1] rfl)
    · have hf := ifF c5 hf
      refine lv_aload_n hx hb dX9_worst_18 rfl (lv_at hl 0 rfl) ?_
      refine gx_X9_3_1432 E hX hD hP dX9_worst_19 ?_
      refine gx_X9_64_1000 E hX hD hP dX9_worst_22 ?_
      refine gx_X9_68_1050 E hX hD hP dX9_worst_25 ?_
      refine lv_iload_n hx hb dX9_worst_28 rfl (lv_at hl 2 rfl) ?_
      obtain ⟨v6, hv6, hf⟩ := bdP hf
      refine p_lald hx hb hX.1 hP (hD.1 _ _ dX_1140) rfl hv6 dX9_worst_29 ?_
      refine lv_lconst hx hb dX9_worst_30 lc_0 ?_
      refine W.lcmp hx hb dX9_worst_31 ?_
      have J59 : ∀ (y7 : Int32), xo_X9_worst_p2_J59 y2 y7 = some o4 → ∀ (H : Heap) (locs : List Loc), PIC D clsA G dsc ad σ H → va_S A s.heap H locs → ∀ (ls : Array Slot), lv_has ls 4 [(0, .ref (ad 1432)), (1, .int y7), (2, .int y2)] → W p l e rmX9_worst_p2 s m args below meth c0 H locs 0 0 Q (F0 m 59 ls []) := by
        intro y7 hf H locs hP hS ls hl
        unfold xo_X9_worst_p2_J59 at hf
        obtain ⟨v8, hv8, hf⟩ := bdP hf
        refine lv_iinc (v := v8) (lv' := [(2, .int v8), (0, .ref (ad 1432)), (1, .int y7)]) hx hb dX9_worst_59 hl (k := 2) rfl (Option.some.inj hv8) (by decide) rfl (fun ls hl => ?_)
        refine lv_goto (tgt := 4) hx hb dX9_worst_62 (by decide) ?_
        exact ih4 _ (Option.some.inj hf).symm H locs hP hS ls (lv_sub hl [1, 2, 0] rfl) KE4_0 KE4_1
      refine lv_if_ne (tgt := 38) hx hb dX9_worst_32 (by decide) (fun c9 => ?_) (fun c9 => ?_)
      · have hf := ifF (mt (lgc_eq _ _).mpr c9) hf
        refine lv_aload_n hx hb dX9_worst_38 rfl (lv_at hl 0 rfl) ?_
        refine lv_iload_n hx hb dX9_worst_39 rfl (lv_at hl 2 rfl) ?_
        obtain ⟨v10, u11, hf⟩ := bdP hf
        refine cx_X9_74_X9_hours_p2 E hX hD hP hS hA (kxX9_hours_p2 l D G hD rfl rfl rfl rfl rfl rfl rfl rfl rfl rfl rfl rfl rfl rfl rfl rfl rfl rfl rfl rfl rfl rfl rfl rfl rfl u11) ⟨rfl, rfl⟩ ⟨Nat.le_of_ble_eq_true rfl, Nat.le_of_ble_eq_true rfl⟩ ⟨Nat.zero_le _, Nat.zero_le _⟩ hl.1 (Nat.le_of_ble_eq_true rfl) dX9_worst_40 (fun H locs hP hS => ?_)
        refine lv_istore_n (lv' := [(3, .int v10), (0, .ref (ad 1432)), (1, .int y1), (2, .int y2)]) hx hb dX9_worst_43 rfl hl (by decide) rfl (fun ls hl => ?_)
        refine lv_iload_n hx hb dX9_worst_44 rfl (lv_at hl 0 rfl) ?_
        refine lv_bipush hx hb dX9_worst_45 bp_m2 ?_
        refine lv_icmp_ne (tgt := 53) hx hb dX9_worst_47 (by decide) (fun c12 => ?_) (fun c12 => ?_)
        · have hf := ifF c12 hf
          refine lv_iload_n hx hb dX9_worst_53 rfl (lv_at hl 2 rfl) ?_
          refine lv_iload_n hx hb dX9_worst_54 rfl (lv_at hl 0 rfl) ?_
          refine va_mmax hx hb (hml.trans hl.1.symm) hown (hts _ q1317) (hts _ q892) (hts _ q152) (hts _ q893) (Nat.le_of_ble_eq_true rfl) (Nat.le_of_ble_eq_true rfl) (Nat.zero_le _) (Nat.zero_le _) dX9_worst_55 ?_
          obtain ⟨v13, hv13, hf⟩ := bdP hf
          refine nm_i (Option.some.inj hv13) ?_
          refine lv_istore_n (lv' := [(1, .int v13), (3, .int v10), (0, .ref (ad 1432)), (2, .int y2)]) hx hb dX9_worst_58 rfl hl (by decide) rfl (fun ls hl => ?_)
          exact J59 v13 hf H locs hP hS ls (lv_sub hl [2, 0, 3] rfl)
        · have hf := ifT c12 hf
          exact KE4_0  (hx4 _ (Option.some.inj hf).symm).symm H locs hP hS ls (lv_sub hl [] rfl)
      · have hf := ifT ((lgc_eq _ _).mp c9) hf
        refine lv_goto (tgt := 59) hx hb dX9_worst_35 (by decide) ?_
        exact J59 y1 hf H locs hP hS ls (lv_sub hl [0, 1, 2] rfl)
  obtain ⟨ex4, hlp4, hf⟩ := bdP hf
  refine LP4 (0, 0) ex4 hlp4 H locs hP hS ls (lv_sub hl [2, 1, 0] rfl) ?_ ?_
  · intro  hex4 H locs hP hS ls hl
    subst ex4
    dsimp only [sE_l, sE_r] at hf
    refine lv_bipush hx hb dX9_worst_50 bp_m2 ?_
    cases hf
    rw [hQ]; exact g_iret hx hb hr hlk hP hS dX9_worst_52
  · intro y14 hex4 H locs hP hS ls hl
    subst ex4
    dsimp only [sE_l, sE_r] at hf
    refine lv_iload_n hx hb dX9_worst_65 rfl (lv_at hl 0 rfl) ?_
    cases hf
    rw [hQ]; exact g_iret hx hb hr hlk hP hS dX9_worst_66
theorem kxX9_worst_p2 (l : Launch) (D : va_G) (G : Nat → ClassId) {dsc : Nat → Option Dsc} {ad : Nat → Nat} {σ : Sto} {nr nw nu : Nat} (hD : XD dsc nr nw nu) {r_ : Int32} {z_TF_by : Int32} (e_zI1092 : σ.1 1092 = z_TF_by) {z_TF_times : Int32} (e_zI1094 : σ.1 1094 = z_TF_times) {z_TF_of : Int32} (e_zI1095 : σ.1 1095 = z_TF_of) {z_L_places : Int32} (e_zI2008 : σ.1 2008 = z_L_places) {z_L_from : Int32} (e_zI2012 : σ.1 2012 = z_L_from) {z_L_to : Int32} (e_zI2013 : σ.1 2013 = z_L_to) {z_Ld_size : Int32} (e_zI2027 : σ.1 2027 = z_Ld_size) {z_Lw_size : Int32} (e_zI2032 : σ.1 2032 = z_Lw_size) {z_TF_none : Int64} (e_zL1091 : σ.2.1 1091 = z_TF_none) {a_X_knowing : Nat → Int32} (e_aI1108 : σ.2.2.1 1108 = a_X_knowing) {a_UNIT : Nat → Int32} (e_aI1170 : σ.2.2.1 1170 = a_UNIT) {a_Lw_data : Nat → Int32} (e_aI2037 : σ.2.2.1 2037 = a_Lw_data) {a_L_seen : Nat → Int32} (e_aI2043 : σ.2.2.1 2043 = a_L_seen) {a_W_world : Nat → Int64} (e_aL1140 : σ.2.2.2.1 1140 = a_W_world) {a_W_likely : Nat → Int64} (e_aL1141 : σ.2.2.2.1 1141 = a_W_likely) {a_TF_value : Nat → Int64} (e_aL1153 : σ.2.2.2.1 1153 = a_TF_value) {n_r : Nat} (e_nN0 : nr = n_r) {n_w : Nat} (e_nN1 : nw = n_w) {p_road_hours : Nat → Int32} (e_pR2 : (fun k => σ.1 (6000 + 16 * k + 2)) = p_road_hours) {p_road_wait : Nat → Int32} (e_pR5 : (fun k => σ.1 (6000 + 16 * k + 5)) = p_road_wait) {p_road_number : Nat → Int32} (e_pR6 : (fun k => σ.1 (6000 + 16 * k + 6)) = p_road_number) {p_word_place : Nat → Int32} (e_pW0 : (fun k => σ.1 (8000 + 16 * k + 0)) = p_word_place) {p_word_road : Nat → Int32} (e_pW1 : (fun k => σ.1 (8000 + 16 * k + 1)) = p_word_road) {p_word_hours : Nat → Int32} (e_pW2 : (fun k => σ.1 (8000 + 16 * k + 2)) = p_word_hours) {g_grid : Nat → Nat → Int32} (e_gG0 : (fun k => σ.2.2.1 (4000 + 16 * k)) = g_grid) (hf : xo_X9_worst_p2 z_TF_by z_TF_times z_TF_of z_L_places z_L_from z_L_to z_Ld_size z_Lw_size z_TF_none a_X_knowing a_UNIT a_Lw_data a_L_seen a_W_world a_W_likely a_TF_value n_r n_w p_road_hours p_road_wait p_road_number p_word_place p_word_road p_word_hours g_grid = some r_) : CtG l D G dsc ad yX9_worst (ws_ yX9_worst cX9_worst 4 (Option.some Jvm.ClassFile.FieldType.int)) rmX9_worst_p2 [.ref (ad 1432)] σ (some (.int r_)) σ := by
  subst e_zI1092
  subst e_zI1094
  subst e_zI1095
  subst e_zI2008
  subst e_zI2012
  subst e_zI2013
  subst e_zI2027
  subst e_zI2032
  subst e_zL1091
  subst e_aI1108
  subst e_aI1170
  subst e_aI2037
  subst e_aI2043
  subst e_aL1140
  subst e_aL1141
  subst e_aL1153
  subst e_nN0
  subst e_nN1
  subst e_pR2
  subst e_pR5
  subst e_pR6
  subst e_pW0
  subst e_pW1
  subst e_pW2
  subst e_gG0
  exact p_ctG (by decide +kernel) (Nat.le_of_ble_eq_true rfl) (fun p e s m below meth c0 ls A E hP hX hA hS hl => wkX9_worst_p2 E hX hD hA hf rfl hP hS hl)
/-! X9_worst_p3 ()I -/
def sgX9_worst_p3 (σ : Sto) (w0 : Nat → Int32) : Sto := aI σ 1162 w0
theorem sgX9_worst_p3_self (σ : Sto) : sgX9_worst_p3 σ (σ.2.2.1 1162) = σ := by
  unfold sgX9_worst_p3
  simp only [zI_self, zL_self, aI_self, aL_self]
theorem sgX9_worst_p3_aI1162 {σ : Sto} {w0 : Nat → Int32} {g : Nat → Int32} : aI (sgX9_worst_p3 σ w0) 1162 g = sgX9_worst_p3 σ g := aI_aI _ 1162 _ _
theorem sgX9_worst_p3_rzI2008 {σ : Sto} {w0 : Nat → Int32} : (sgX9_worst_p3 σ w0).1 2008 = σ.1 2008 := rfl
theorem sgX9_worst_p3_rzI2012 {σ : Sto} {w0 : Nat → Int32} : (sgX9_worst_p3 σ w0).1 2012 = σ.1 2012 := rfl
theorem sgX9_worst_p3_rzI2013 {σ : Sto} {w0 : Nat → Int32} : (sgX9_worst_p3 σ w0).1 2013 = σ.1 2013 := rfl
theorem sgX9_worst_p3_rzI2027 {σ : Sto} {w0 : Nat → Int32} : (sgX9_worst_p3 σ w0).1 2027 = σ.1 2027 := rfl
theorem sgX9_worst_p3_rzI2032 {σ : Sto} {w0 : Nat → Int32} : (sgX9_worst_p3 σ w0).1 2032 = σ.1 2032 := rfl
theorem sgX9_worst_p3_raI1162 {σ : Sto} {w0 : Nat → Int32} : (sgX9_worst_p3 σ w0).2.2.1 1162 = w0 := rfl
theorem sgX9_worst_p3_raI1170 {σ : Sto} {w0 : Nat → Int32} : (sgX9_worst_p3 σ w0).2.2.1 1170 = σ.2.2.1 1170 := rfl
theorem sgX9_worst_p3_raI2037 {σ : Sto} {w0 : Nat → Int32} : (sgX9_worst_p3 σ w0).2.2.1 2037 = σ.2.2.1 2037 := rfl
theorem sgX9_worst_p3_raI2043 {σ : Sto} {w0 : Nat → Int32} : (sgX9_worst_p3 σ w0).2.2.1 2043 = σ.2.2.1 2043 := rfl
theorem sgX9_worst_p3_raL1140 {σ : Sto} {w0 : Nat → Int32} : (sgX9_worst_p3 σ w0).2.2.2.1 1140 = σ.2.2.2.1 1140 := rfl
theorem sgX9_worst_p3_rpR2 {σ : Sto} {w0 : Nat → Int32} : (fun k => (sgX9_worst_p3 σ w0).1 (6000 + 16 * k + 2)) = (fun k => σ.1 (6000 + 16 * k + 2)) := by
  funext k
  unfold sgX9_worst_p3
  dsimp only [zI, zL, aI, aL]
  repeat rw [if_neg (by omega)]
theorem sgX9_worst_p3_rpR5 {σ : Sto} {w0 : Nat → Int32} : (fun k => (sgX9_worst_p3 σ w0).1 (6000 + 16 * k + 5)) = (fun k => σ.1 (6000 + 16 * k + 5)) := by
  funext k
  unfold sgX9_worst_p3
  dsimp only [zI, zL, aI, aL]
  repeat rw [if_neg (by omega)]
theorem sgX9_worst_p3_rpR6 {σ : Sto} {w0 : Nat → Int32} : (fun k => (sgX9_worst_p3 σ w0).1 (6000 + 16 * k + 6)) = (fun k => σ.1 (6000 + 16 * k + 6)) := by
  funext k
  unfold sgX9_worst_p3
  dsimp only [zI, zL, aI, aL]
  repeat rw [if_neg (by omega)]
theorem sgX9_worst_p3_rpW1 {σ : Sto} {w0 : Nat → Int32} : (fun k => (sgX9_worst_p3 σ w0).1 (8000 + 16 * k + 1)) = (fun k => σ.1 (8000 + 16 * k + 1)) := by
  funext k
  unfold sgX9_worst_p3
  dsimp only [zI, zL, aI, aL]
  repeat rw [if_neg (by omega)]
theorem sgX9_worst_p3_rpW2 {σ : Sto} {w0 : Nat → Int32} : (fun k => (sgX9_worst_p3 σ w0).1 (8000 + 16 * k + 2)) = (fun k => σ.1 (8000 + 16 * k + 2)) := by
  funext k
  unfold sgX9_worst_p3
  dsimp only [zI, zL, aI, aL]
  repeat rw [if_neg (by omega)]
theorem sgX9_worst_p3_rgG0 {σ : Sto} {w0 : Nat → Int32} : (fun k => (sgX9_worst_p3 σ w0).2.2.1 (4000 + 16 * k)) = (fun k => σ.2.2.1 (4000 + 16 * k)) := by
  funext k
  unfold sgX9_worst_p3
  dsimp only [zI, zL, aI, aL]
  repeat rw [if_neg (by omega)]
abbrev rmX9_worst_p3 : Room := { frames := 5, cells := 0, slots := 0, locals := 124 }
set_option maxHeartbeats 4000000 in
theorem wkX9_worst_p3 {r_ : Int32} {w_aI1162 : Nat → Int32} (E : EN p s m args meth c0 RX9 cX9_worst 4 (Option.some Jvm.ClassFile.FieldType.int)) (hX : KX D G ad A s s.heap) (hD : XD dsc nr nw nu) (hA : ∀ q, PA dsc ad s.heap.size q → A q) (hf : xo_X9_worst_p3 (σ.1 2008) (σ.1 2012) (σ.1 2013) (σ.1 2027) (σ.1 2032) (σ.2.2.1 1162) (σ.2.2.1 1170) (σ.2.2.1 2037) (σ.2.2.1 2043) (σ.2.2.2.1 1140) nr nw (fun k => σ.1 (6000 + 16 * k + 2)) (fun k => σ.1 (6000 + 16 * k + 5)) (fun k => σ.1 (6000 + 16 * k + 6)) (fun k => σ.1 (8000 + 16 * k + 1)) (fun k => σ.1 (8000 + 16 * k + 2)) (fun k => σ.2.2.1 (4000 + 16 * k)) = some (r_, w_aI1162)) (hQ : Q = MQ below (va_G1 (some (.int r_)) (fun t => PIC D clsA G dsc ad (sgX9_worst_p3 σ w_aI1162) t.heap) A) args s 0 0 A) (hP : PIC D clsA G dsc ad σ H) (hS : va_S A s.heap H locs) (hl : lv_has ls 4 [(0, .ref (ad 1448))]) : W p l e rmX9_worst_p3 s m args below meth c0 H locs 0 0 Q (F0 m 0 ls []) := by
  obtain ⟨⟨hx, hb, hml, hown, hts⟩, hr, hlk⟩ := id E
  have hP := hP.to (sgX9_worst_p3_self σ).symm
  unfold xo_X9_worst_p3 at hf
  refine lv_iconst hx hb dX9_worst_0 ic_0 ?_
  refine lv_istore_n (lv' := [(1, .int 0), (0, .ref (ad 1448))]) hx hb dX9_worst_1 rfl hl (by decide) rfl (fun ls hl => ?_)
  refine lv_iconst hx hb dX9_worst_2 ic_0 ?_
  refine lv_istore_n (lv' := [(2, .int 0), (1, .int 0), (0, .ref (ad 1448))]) hx hb dX9_worst_3 rfl hl (by decide) rfl (fun ls hl => ?_)
  have LP4 : ∀ (st4 : Int32 × Int32 × (Nat → Int32)) (ex4 : ((Nat → Int32)) ⊕ (Int32 × (Nat → Int32))), loop (xo_X9_worst_p3_L4 (σ.1 2008) (σ.1 2012) (σ.1 2013) (σ.1 2027) (σ.1 2032) (σ.2.2.1 1170) (σ.2.2.1 2037) (σ.2.2.1 2043) (σ.2.2.2.1 1140) nr nw (fun k => σ.1 (6000 + 16 * k + 2)) (fun k => σ.1 (6000 + 16 * k + 5)) (fun k => σ.1 (6000 + 16 * k + 6)) (fun k => σ.1 (8000 + 16 * k + 1)) (fun k => σ.1 (8000 + 16 * k + 2)) (fun k => σ.2.2.1 (4000 + 16 * k))) st4 = some ex4 → ∀ (H : Heap) (locs : List Loc), PIC D clsA G dsc ad (sgX9_worst_p3 σ (st4.2.2)) H → va_S A s.heap H locs → ∀ (ls : Array Slot), lv_has ls 4 [(0, .ref (ad 1448)), (1, .int (st4.1)), (2, .int (st4.2.1))] → (∀ (a17 : Nat → Int32), ex4 = (.inl a17) → ∀ (H : Heap) (locs : List Loc), PIC D clsA G dsc ad (sgX9_worst_p3 σ a17) H → va_S A s.heap H locs → ∀ (ls : Array Slot), lv_has ls 4 [] → W p l e rmX9_worst_p3 s m args below meth c0 H locs 0 0 Q (F0 m 50 ls [])) → (∀ (y18 : Int32) (a19 : Nat → Int32), ex4 = (.inr (y18, a19)) → ∀ (H : Heap) (locs : List Loc), PIC D clsA G dsc ad (sgX9_worst_p3 σ a19) H → va_S A s.heap H locs → ∀ (ls : Array Slot), lv_has ls 4 [(1, .int y18)] → W p l e rmX9_worst_p3 s m args below meth c0 H locs 0 0 Q (F0 m 65 ls [])) → W p l e rmX9_worst_p3 s m args below meth c0 H locs 0 0 Q (F0 m 4 ls []) := by
    refine loop_P (fun st4 ex4 o4 hf ih4 hx4 => ?_)
    obtain ⟨y1, y2, a3⟩ := st4
    intro H locs (hP : PIC D clsA G dsc ad (sgX9_worst_p3 σ a3) H) hS ls (hl : lv_has ls 4 [(0, .ref (ad 1448)), (1, .int y1), (2, .int y2)]) KE4_0 KE4_1
    dsimp only [xo_X9_worst_p3_L4] at hf
    refine lv_iload_n hx hb dX9_worst_4 rfl (lv_at hl 2 rfl) ?_
    refine lv_aload_n hx hb dX9_worst_5 rfl (lv_at hl 0 rfl) ?_
    refine gx_X9_3_1448 E hX hD hP dX9_worst_6 ?_
    refine gx_X9_15_1000 E hX hD hP dX9_worst_9 ?_
    obtain ⟨v4, u5, hf⟩ := bdP hf
    refine cx_X9_60_X3_worlds E hX hD hP hS hA (kxX3_worlds l D G hD sgX9_worst_p3_rzI2027 u5) ⟨rfl, rfl⟩ ⟨Nat.le_of_ble_eq_true rfl, Nat.le_of_ble_eq_true rfl⟩ ⟨Nat.zero_le _, Nat.zero_le _⟩ hl.1 (Nat.le_of_ble_eq_true rfl) dX9_worst_12 (fun H locs hP hS => ?_)
    refine lv_icmp_ge (tgt := 65) hx hb dX9_worst_15 (by decide) (fun c6 => ?_) (fun c6 => ?_)
    · have hf := ifT c6 hf
      exact KE4_1 _ _ (hx4 _ (Option.some.inj hf).symm).symm H locs hP hS ls (lv_sub hl [1] rfl)
    · have hf := ifF c6 hf
      refine lv_aload_n hx hb dX9_worst_18 rfl (lv_at hl 0 rfl) ?_
      refine gx_X9_3_1448 E hX hD hP dX9_worst_19 ?_
      refine gx_X9_64_1000 E hX hD hP dX9_worst_22 ?_
      refine gx_X9_68_1050 E hX hD hP dX9_worst_25 ?_
      refine lv_iload_n hx hb dX9_worst_28 rfl (lv_at hl 2 rfl) ?_
      obtain ⟨v7, hv7, hf⟩ := bdP hf
      refine p_lald hx hb hX.1 hP (hD.1 _ _ dX_1140) sgX9_worst_p3_raL1140 hv7 dX9_worst_29 ?_
      refine lv_lconst hx hb dX9_worst_30 lc_0 ?_
      refine W.lcmp hx hb dX9_worst_31 ?_
      have J59 : ∀ (y8 : Int32) (a9 : Nat → Int32), xo_X9_worst_p3_J59 y2 y8 a9 = some o4 → ∀ (H : Heap) (locs : List Loc), PIC D clsA G dsc ad (sgX9_worst_p3 σ a9) H → va_S A s.heap H locs → ∀ (ls : Array Slot), lv_has ls 4 [(0, .ref (ad 1448)), (1, .int y8), (2, .int y2)] → W p l e rmX9_worst_p3 s m args below meth c0 H locs 0 0 Q (F0 m 59 ls []) := by
        intro y8 a9 hf H locs hP hS ls hl
        unfold xo_X9_worst_p3_J59 at hf
        obtain ⟨v10, hv10, hf⟩ := bdP hf
        refine lv_iinc (v := v10) (lv' := [(2, .int v10), (0, .ref (ad 1448)), (1, .int y8)]) hx hb dX9_worst_59 hl (k := 2) rfl (Option.some.inj hv10) (by decide) rfl (fun ls hl => ?_)
        refine lv_goto (tgt := 4) hx hb dX9_worst_62 (by decide) ?_
        exact ih4 _ (Option.some.inj hf).symm H locs hP hS ls (lv_sub hl [1, 2, 0] rfl) KE4_0 KE4_1
      refine lv_if_ne (tgt := 38) hx hb dX9_worst_32 (by decide) (fun c11 => ?_) (fun c11 => ?_)
      · have hf := ifF (mt (lgc_eq _ _).mpr c11) hf
        refine lv_aload_n hx hb dX9_worst_38 rfl (lv_at hl 0 rfl) ?_
        refine lv_iload_n hx hb dX9_worst_39 rfl (lv_at hl 2 rfl) ?_
        obtain ⟨⟨v12, a13⟩, u14, hf⟩ := bdP hf
        dsimp only at hf
        refine cx_X9_74_X9_hours_p3 E hX hD hP hS hA (kxX9_hours_p3 l D G hD sgX9_worst_p3_rzI2008 sgX9_worst_p3_rzI2012 sgX9_worst_p3_rzI2013 sgX9_worst_p3_rzI2027 sgX9_worst_p3_rzI2032 sgX9_worst_p3_raI1162 sgX9_worst_p3_raI1170 sgX9_worst_p3_raI2037 sgX9_worst_p3_raI2043 rfl rfl sgX9_worst_p3_rpR2 sgX9_worst_p3_rpR5 sgX9_worst_p3_rpR6 sgX9_worst_p3_rpW1 sgX9_worst_p3_rpW2 sgX9_worst_p3_rgG0 u14) ⟨rfl, rfl⟩ ⟨Nat.le_of_ble_eq_true rfl, Nat.le_of_ble_eq_true rfl⟩ ⟨Nat.zero_le _, Nat.zero_le _⟩ hl.1 (Nat.le_of_ble_eq_true rfl) dX9_worst_40 (fun H locs hP hS => ?_)
        rw [sgX9_worst_p3_aI1162] at hP
        refine lv_istore_n (lv' := [(3, .int v12), (0, .ref (ad 1448)), (1, .int y1), (2, .int y2)]) hx hb dX9_worst_43 rfl hl (by decide) rfl (fun ls hl => ?_)
        refine lv_iload_n hx hb dX9_worst_44 rfl (lv_at hl 0 rfl) ?_
        refine lv_bipush hx hb dX9_worst_45 bp_m2 ?_
        refine lv_icmp_ne (tgt := 53) hx hb dX9_worst_47 (by decide) (fun c15 => ?_) (fun c15 => ?_)
        · have hf := ifF c15 hf
          refine lv_iload_n hx hb dX9_worst_53 rfl (lv_at hl 2 rfl) ?_
          refine lv_iload_n hx hb dX9_worst_54 rfl (lv_at hl 0 rfl) ?_
          refine va_mmax hx hb (hml.trans hl.1.symm) hown (hts _ q1317) (hts _ q892) (hts _ q152) (hts _ q893) (Nat.le_of_ble_eq_true rfl) (Nat.le_of_ble_eq_true rfl) (Nat.zero_le _) (Nat.zero_le _) dX9_worst_55 ?_
          obtain ⟨v16, hv16, hf⟩ := bdP hf
          refine nm_i (Option.some.inj hv16) ?_
          refine lv_istore_n (lv' := [(1, .int v16), (3, .int v12), (0, .ref (ad 1448)), (2, .int y2)]) hx hb dX9_worst_58 rfl hl (by decide) rfl (fun ls hl => ?_)
          exact J59 v16 a13 hf H locs hP hS ls (lv_sub hl [2, 0, 3] rfl)
        · have hf := ifT c15 hf
          exact KE4_0 _ (hx4 _ (Option.some.inj hf).symm).symm H locs hP hS ls (lv_sub hl [] rfl)
      · have hf := ifT ((lgc_eq _ _).mp c11) hf
        refine lv_goto (tgt := 59) hx hb dX9_worst_35 (by decide) ?_
        exact J59 y1 a3 hf H locs hP hS ls (lv_sub hl [0, 1, 2] rfl)
  obtain ⟨ex4, hlp4, hf⟩ := bdP hf
  refine LP4 (0, 0, (σ.2.2.1 1162)) ex4 hlp4 H locs hP hS ls (lv_sub hl [2, 1, 0] rfl) ?_ ?_
  · intro a17 hex4 H locs hP hS ls hl
    subst ex4
    dsimp only [sE_l, sE_r] at hf
    refine lv_bipush hx hb dX9_worst_50 bp_m2 ?_
    cases hf
    rw [hQ]; exact g_iret hx hb hr hlk hP hS dX9_worst_52
  · intro y18 a19 hex4 H locs hP hS ls hl
    subst ex4
    dsimp only [sE_l, sE_r] at hf
    refine lv_iload_n hx hb dX9_worst_65 rfl (lv_at hl 0 rfl) ?_
    cases hf
    rw [hQ]; exact g_iret hx hb hr hlk hP hS dX9_worst_66
theorem kxX9_worst_p3 (l : Launch) (D : va_G) (G : Nat → ClassId) {dsc : Nat → Option Dsc} {ad : Nat → Nat} {σ : Sto} {nr nw nu : Nat} (hD : XD dsc nr nw nu) {r_ : Int32} {w_aI1162 : Nat → Int32} {z_L_places : Int32} (e_zI2008 : σ.1 2008 = z_L_places) {z_L_from : Int32} (e_zI2012 : σ.1 2012 = z_L_from) {z_L_to : Int32} (e_zI2013 : σ.1 2013 = z_L_to) {z_Ld_size : Int32} (e_zI2027 : σ.1 2027 = z_Ld_size) {z_Lw_size : Int32} (e_zI2032 : σ.1 2032 = z_Lw_size) {a_p3_far : Nat → Int32} (e_aI1162 : σ.2.2.1 1162 = a_p3_far) {a_UNIT : Nat → Int32} (e_aI1170 : σ.2.2.1 1170 = a_UNIT) {a_Lw_data : Nat → Int32} (e_aI2037 : σ.2.2.1 2037 = a_Lw_data) {a_L_seen : Nat → Int32} (e_aI2043 : σ.2.2.1 2043 = a_L_seen) {a_W_world : Nat → Int64} (e_aL1140 : σ.2.2.2.1 1140 = a_W_world) {n_r : Nat} (e_nN0 : nr = n_r) {n_w : Nat} (e_nN1 : nw = n_w) {p_road_hours : Nat → Int32} (e_pR2 : (fun k => σ.1 (6000 + 16 * k + 2)) = p_road_hours) {p_road_wait : Nat → Int32} (e_pR5 : (fun k => σ.1 (6000 + 16 * k + 5)) = p_road_wait) {p_road_number : Nat → Int32} (e_pR6 : (fun k => σ.1 (6000 + 16 * k + 6)) = p_road_number) {p_word_road : Nat → Int32} (e_pW1 : (fun k => σ.1 (8000 + 16 * k + 1)) = p_word_road) {p_word_hours : Nat → Int32} (e_pW2 : (fun k => σ.1 (8000 + 16 * k + 2)) = p_word_hours) {g_grid : Nat → Nat → Int32} (e_gG0 : (fun k => σ.2.2.1 (4000 + 16 * k)) = g_grid) (hf : xo_X9_worst_p3 z_L_places z_L_from z_L_to z_Ld_size z_Lw_size a_p3_far a_UNIT a_Lw_data a_L_seen a_W_world n_r n_w p_road_hours p_road_wait p_road_number p_word_road p_word_hours g_grid = some (r_, w_aI1162)) : CtG l D G dsc ad yX9_worst (ws_ yX9_worst cX9_worst 4 (Option.some Jvm.ClassFile.FieldType.int)) rmX9_worst_p3 [.ref (ad 1448)] σ (some (.int r_)) (aI σ 1162 w_aI1162) := by
  subst e_zI2008
  subst e_zI2012
  subst e_zI2013
  subst e_zI2027
  subst e_zI2032
  subst e_aI1162
  subst e_aI1170
  subst e_aI2037
  subst e_aI2043
  subst e_aL1140
  subst e_nN0
  subst e_nN1
  subst e_pR2
  subst e_pR5
  subst e_pR6
  subst e_pW1
  subst e_pW2
  subst e_gG0
  exact p_ctG (by decide +kernel) (Nat.le_of_ble_eq_true rfl) (fun p e s m below meth c0 ls A E hP hX hA hS hl => wkX9_worst_p3 E hX hD hA hf rfl hP hS hl)
/-! X9_worst_p4 ()I -/
def sgX9_worst_p4 (σ : Sto) (w0 : Nat → Int32) : Sto := aI σ 1163 w0
theorem sgX9_worst_p4_self (σ : Sto) : sgX9_worst_p4 σ (σ.2.2.1 1163) = σ := by
  unfold sgX9_worst_p4
  simp only [zI_self, zL_self, aI_self, aL_self]
theorem sgX9_worst_p4_aI1163 {σ : Sto} {w0 : Nat → Int32} {g : Nat → Int32} : aI (sgX9_worst_p4 σ w0) 1163 g = sgX9_worst_p4 σ g := aI_aI _ 1163 _ _
theorem sgX9_worst_p4_rzI2008 {σ : Sto} {w0 : Nat → Int32} : (sgX9_worst_p4 σ w0).1 2008 = σ.1 2008 := rfl
theorem sgX9_worst_p4_rzI2012 {σ : Sto} {w0 : Nat → Int32} : (sgX9_worst_p4 σ w0).1 2012 = σ.1 2012 := rfl
theorem sgX9_worst_p4_rzI2013 {σ : Sto} {w0 : Nat → Int32} : (sgX9_worst_p4 σ w0).1 2013 = σ.1 2013 := rfl
theorem sgX9_worst_p4_rzI2027 {σ : Sto} {w0 : Nat → Int32} : (sgX9_worst_p4 σ w0).1 2027 = σ.1 2027 := rfl
theorem sgX9_worst_p4_rzI2032 {σ : Sto} {w0 : Nat → Int32} : (sgX9_worst_p4 σ w0).1 2032 = σ.1 2032 := rfl
theorem sgX9_worst_p4_raI1163 {σ : Sto} {w0 : Nat → Int32} : (sgX9_worst_p4 σ w0).2.2.1 1163 = w0 := rfl
theorem sgX9_worst_p4_raI1170 {σ : Sto} {w0 : Nat → Int32} : (sgX9_worst_p4 σ w0).2.2.1 1170 = σ.2.2.1 1170 := rfl
theorem sgX9_worst_p4_raI2037 {σ : Sto} {w0 : Nat → Int32} : (sgX9_worst_p4 σ w0).2.2.1 2037 = σ.2.2.1 2037 := rfl
theorem sgX9_worst_p4_raI2043 {σ : Sto} {w0 : Nat → Int32} : (sgX9_worst_p4 σ w0).2.2.1 2043 = σ.2.2.1 2043 := rfl
theorem sgX9_worst_p4_raL1140 {σ : Sto} {w0 : Nat → Int32} : (sgX9_worst_p4 σ w0).2.2.2.1 1140 = σ.2.2.2.1 1140 := rfl
theorem sgX9_worst_p4_rpR2 {σ : Sto} {w0 : Nat → Int32} : (fun k => (sgX9_worst_p4 σ w0).1 (6000 + 16 * k + 2)) = (fun k => σ.1 (6000 + 16 * k + 2)) := by
  funext k
  unfold sgX9_worst_p4
  dsimp only [zI, zL, aI, aL]
  repeat rw [if_neg (by omega)]
theorem sgX9_worst_p4_rpR5 {σ : Sto} {w0 : Nat → Int32} : (fun k => (sgX9_worst_p4 σ w0).1 (6000 + 16 * k + 5)) = (fun k => σ.1 (6000 + 16 * k + 5)) := by
  funext k
  unfold sgX9_worst_p4
  dsimp only [zI, zL, aI, aL]
  repeat rw [if_neg (by omega)]
theorem sgX9_worst_p4_rpR6 {σ : Sto} {w0 : Nat → Int32} : (fun k => (sgX9_worst_p4 σ w0).1 (6000 + 16 * k + 6)) = (fun k => σ.1 (6000 + 16 * k + 6)) := by
  funext k
  unfold sgX9_worst_p4
  dsimp only [zI, zL, aI, aL]
  repeat rw [if_neg (by omega)]
theorem sgX9_worst_p4_rpW1 {σ : Sto} {w0 : Nat → Int32} : (fun k => (sgX9_worst_p4 σ w0).1 (8000 + 16 * k + 1)) = (fun k => σ.1 (8000 + 16 * k + 1)) := by
  funext k
  unfold sgX9_worst_p4
  dsimp only [zI, zL, aI, aL]
  repeat rw [if_neg (by omega)]
theorem sgX9_worst_p4_rpW2 {σ : Sto} {w0 : Nat → Int32} : (fun k => (sgX9_worst_p4 σ w0).1 (8000 + 16 * k + 2)) = (fun k => σ.1 (8000 + 16 * k + 2)) := by
  funext k
  unfold sgX9_worst_p4
  dsimp only [zI, zL, aI, aL]
  repeat rw [if_neg (by omega)]
theorem sgX9_worst_p4_rgG0 {σ : Sto} {w0 : Nat → Int32} : (fun k => (sgX9_worst_p4 σ w0).2.2.1 (4000 + 16 * k)) = (fun k => σ.2.2.1 (4000 + 16 * k)) := by
  funext k
  unfold sgX9_worst_p4
  dsimp only [zI, zL, aI, aL]
  repeat rw [if_neg (by omega)]
abbrev rmX9_worst_p4 : Room := { frames := 5, cells := 0, slots := 0, locals := 124 }
set_option maxHeartbeats 4000000 in
theorem wkX9_worst_p4 {r_ : Int32} {w_aI1163 : Nat → Int32} (E : EN p s m args meth c0 RX9 cX9_worst 4 (Option.some Jvm.ClassFile.FieldType.int)) (hX : KX D G ad A s s.heap) (hD : XD dsc nr nw nu) (hA : ∀ q, PA dsc ad s.heap.size q → A q) (hf : xo_X9_worst_p4 (σ.1 2008) (σ.1 2012) (σ.1 2013) (σ.1 2027) (σ.1 2032) (σ.2.2.1 1163) (σ.2.2.1 1170) (σ.2.2.1 2037) (σ.2.2.1 2043) (σ.2.2.2.1 1140) nr nw (fun k => σ.1 (6000 + 16 * k + 2)) (fun k => σ.1 (6000 + 16 * k + 5)) (fun k => σ.1 (6000 + 16 * k + 6)) (fun k => σ.1 (8000 + 16 * k + 1)) (fun k => σ.1 (8000 + 16 * k + 2)) (fun k => σ.2.2.1 (4000 + 16 * k)) = some (r_, w_aI1163)) (hQ : Q = MQ below (va_G1 (some (.int r_)) (fun t => PIC D clsA G dsc ad (sgX9_worst_p4 σ w_aI1163) t.heap) A) args s 0 0 A) (hP : PIC D clsA G dsc ad σ H) (hS : va_S A s.heap H locs) (hl : lv_has ls 4 [(0, .ref (ad 1464))]) : W p l e rmX9_worst_p4 s m args below meth c0 H locs 0 0 Q (F0 m 0 ls []) := by
  obtain ⟨⟨hx, hb, hml, hown, hts⟩, hr, hlk⟩ := id E
  have hP := hP.to (sgX9_worst_p4_self σ).symm
  unfold xo_X9_worst_p4 at hf
  refine lv_iconst hx hb dX9_worst_0 ic_0 ?_
  refine lv_istore_n (lv' := [(1, .int 0), (0, .ref (ad 1464))]) hx hb dX9_worst_1 rfl hl (by decide) rfl (fun ls hl => ?_)
  refine lv_iconst hx hb dX9_worst_2 ic_0 ?_
  refine lv_istore_n (lv' := [(2, .int 0), (1, .int 0), (0, .ref (ad 1464))]) hx hb dX9_worst_3 rfl hl (by decide) rfl (fun ls hl => ?_)
  have LP4 : ∀ (st4 : Int32 × Int32 × (Nat → Int32)) (ex4 : ((Nat → Int32)) ⊕ (Int32 × (Nat → Int32))), loop (xo_X9_worst_p4_L4 (σ.1 2008) (σ.1 2012) (σ.1 2013) (σ.1 2027) (σ.1 2032) (σ.2.2.1 1170) (σ.2.2.1 2037) (σ.2.2.1 2043) (σ.2.2.2.1 1140) nr nw (fun k => σ.1 (6000 + 16 * k + 2)) (fun k => σ.1 (6000 + 16 * k + 5)) (fun k => σ.1 (6000 + 16 * k + 6)) (fun k => σ.1 (8000 + 16 * k + 1)) (fun k => σ.1 (8000 + 16 * k + 2)) (fun k => σ.2.2.1 (4000 + 16 * k))) st4 = some ex4 → ∀ (H : Heap) (locs : List Loc), PIC D clsA G dsc ad (sgX9_worst_p4 σ (st4.2.2)) H → va_S A s.heap H locs → ∀ (ls : Array Slot), lv_has ls 4 [(0, .ref (ad 1464)), (1, .int (st4.1)), (2, .int (st4.2.1))] → (∀ (a17 : Nat → Int32), ex4 = (.inl a17) → ∀ (H : Heap) (locs : List Loc), PIC D clsA G dsc ad (sgX9_worst_p4 σ a17) H → va_S A s.heap H locs → ∀ (ls : Array Slot), lv_has ls 4 [] → W p l e rmX9_worst_p4 s m args below meth c0 H locs 0 0 Q (F0 m 50 ls [])) → (∀ (y18 : Int32) (a19 : Nat → Int32), ex4 = (.inr (y18, a19)) → ∀ (H : Heap) (locs : List Loc), PIC D clsA G dsc ad (sgX9_worst_p4 σ a19) H → va_S A s.heap H locs → ∀ (ls : Array Slot), lv_has ls 4 [(1, .int y18)] → W p l e rmX9_worst_p4 s m args below meth c0 H locs 0 0 Q (F0 m 65 ls [])) → W p l e rmX9_worst_p4 s m args below meth c0 H locs 0 0 Q (F0 m 4 ls []) := by
    refine loop_P (fun st4 ex4 o4 hf ih4 hx4 => ?_)
    obtain ⟨y1, y2, a3⟩ := st4
    intro H locs (hP : PIC D clsA G dsc ad (sgX9_worst_p4 σ a3) H) hS ls (hl : lv_has ls 4 [(0, .ref (ad 1464)), (1, .int y1), (2, .int y2)]) KE4_0 KE4_1
    dsimp only [xo_X9_worst_p4_L4] at hf
    refine lv_iload_n hx hb dX9_worst_4 rfl (lv_at hl 2 rfl) ?_
    refine lv_aload_n hx hb dX9_worst_5 rfl (lv_at hl 0 rfl) ?_
    refine gx_X9_3_1464 E hX hD hP dX9_worst_6 ?_
    refine gx_X9_15_1000 E hX hD hP dX9_worst_9 ?_
    obtain ⟨v4, u5, hf⟩ := bdP hf
    refine cx_X9_60_X3_worlds E hX hD hP hS hA (kxX3_worlds l D G hD sgX9_worst_p4_rzI2027 u5) ⟨rfl, rfl⟩ ⟨Nat.le_of_ble_eq_true rfl, Nat.le_of_ble_eq_true rfl⟩ ⟨Nat.zero_le _, Nat.zero_le _⟩ hl.1 (Nat.le_of_ble_eq_true rfl) dX9_worst_12 (fun H locs hP hS => ?_)
    refine lv_icmp_ge (tgt := 65) hx hb dX9_worst_15 (by decide) (fun c6 => ?_) (fun c6 => ?_)
    · have hf := ifT c6 hf
      exact KE4_1 _ _ (hx4 _ (Option.some.inj hf).symm).symm H locs hP hS ls (lv_sub hl [1] rfl)
    · have hf := ifF c6 hf
      refine lv_aload_n hx hb dX9_worst_18 rfl (lv_at hl 0 rfl) ?_
      refine gx_X9_3_1464 E hX hD hP dX9_worst_19 ?_
      refine gx_X9_64_1000 E hX hD hP dX9_worst_22 ?_
      refine gx_X9_68_1050 E hX hD hP dX9_worst_25 ?_
      refine lv_iload_n hx hb dX9_worst_28 rfl (lv_at hl 2 rfl) ?_
      obtain ⟨v7, hv7, hf⟩ := bdP hf
      refine p_lald hx hb hX.1 hP (hD.1 _ _ dX_1140) sgX9_worst_p4_raL1140 hv7 dX9_worst_29 ?_
      refine lv_lconst hx hb dX9_worst_30 lc_0 ?_
      refine W.lcmp hx hb dX9_worst_31 ?_
      have J59 : ∀ (y8 : Int32) (a9 : Nat → Int32), xo_X9_worst_p4_J59 y2 y8 a9 = some o4 → ∀ (H : Heap) (locs : List Loc), PIC D clsA G dsc ad (sgX9_worst_p4 σ a9) H → va_S A s.heap H locs → ∀ (ls : Array Slot), lv_has ls 4 [(0, .ref (ad 1464)), (1, .int y8), (2, .int y2)] → W p l e rmX9_worst_p4 s m args below meth c0 H locs 0 0 Q (F0 m 59 ls []) := by
        intro y8 a9 hf H locs hP hS ls hl
        unfold xo_X9_worst_p4_J59 at hf
        obtain ⟨v10, hv10, hf⟩ := bdP hf
        refine lv_iinc (v := v10) (lv' := [(2, .int v10), (0, .ref (ad 1464)), (1, .int y8)]) hx hb dX9_worst_59 hl (k := 2) rfl (Option.some.inj hv10) (by decide) rfl (fun ls hl => ?_)
        refine lv_goto (tgt := 4) hx hb dX9_worst_62 (by decide) ?_
        exact ih4 _ (Option.some.inj hf).symm H locs hP hS ls (lv_sub hl [1, 2, 0] rfl) KE4_0 KE4_1
      refine lv_if_ne (tgt := 38) hx hb dX9_worst_32 (by decide) (fun c11 => ?_) (fun c11 => ?_)
      · have hf := ifF (mt (lgc_eq _ _).mpr c11) hf
        refine lv_aload_n hx hb dX9_worst_38 rfl (lv_at hl 0 rfl) ?_
        refine lv_iload_n hx hb dX9_worst_39 rfl (lv_at hl 2 rfl) ?_
        obtain ⟨⟨v12, a13⟩, u14, hf⟩ := bdP hf
        dsimp only at hf
        refine cx_X9_74_X9_hours_p4 E hX hD hP hS hA (kxX9_hours_p4 l D G hD sgX9_worst_p4_rzI2008 sgX9_worst_p4_rzI2012 sgX9_worst_p4_rzI2013 sgX9_worst_p4_rzI2027 sgX9_worst_p4_rzI2032 sgX9_worst_p4_raI1163 sgX9_worst_p4_raI1170 sgX9_worst_p4_raI2037 sgX9_worst_p4_raI2043 rfl rfl sgX9_worst_p4_rpR2 sgX9_worst_p4_rpR5 sgX9_worst_p4_rpR6 sgX9_worst_p4_rpW1 sgX9_worst_p4_rpW2 sgX9_worst_p4_rgG0 u14) ⟨rfl, rfl⟩ ⟨Nat.le_of_ble_eq_true rfl, Nat.le_of_ble_eq_true rfl⟩ ⟨Nat.zero_le _, Nat.zero_le _⟩ hl.1 (Nat.le_of_ble_eq_true rfl) dX9_worst_40 (fun H locs hP hS => ?_)
        rw [sgX9_worst_p4_aI1163] at hP
        refine lv_istore_n (lv' := [(3, .int v12), (0, .ref (ad 1464)), (1, .int y1), (2, .int y2)]) hx hb dX9_worst_43 rfl hl (by decide) rfl (fun ls hl => ?_)
        refine lv_iload_n hx hb dX9_worst_44 rfl (lv_at hl 0 rfl) ?_
        refine lv_bipush hx hb dX9_worst_45 bp_m2 ?_
        refine lv_icmp_ne (tgt := 53) hx hb dX9_worst_47 (by decide) (fun c15 => ?_) (fun c15 => ?_)
        · have hf := ifF c15 hf
          refine lv_iload_n hx hb dX9_worst_53 rfl (lv_at hl 2 rfl) ?_
          refine lv_iload_n hx hb dX9_worst_54 rfl (lv_at hl 0 rfl) ?_
          refine va_mmax hx hb (hml.trans hl.1.symm) hown (hts _ q1317) (hts _ q892) (hts _ q152) (hts _ q893) (Nat.le_of_ble_eq_true rfl) (Nat.le_of_ble_eq_true rfl) (Nat.zero_le _) (Nat.zero_le _) dX9_worst_55 ?_
          obtain ⟨v16, hv16, hf⟩ := bdP hf
          refine nm_i (Option.some.inj hv16) ?_
          refine lv_istore_n (lv' := [(1, .int v16), (3, .int v12), (0, .ref (ad 1464)), (2, .int y2)]) hx hb dX9_worst_58 rfl hl (by decide) rfl (fun ls hl => ?_)
          exact J59 v16 a13 hf H locs hP hS ls (lv_sub hl [2, 0, 3] rfl)
        · have hf := ifT c15 hf
          exact KE4_0 _ (hx4 _ (Option.some.inj hf).symm).symm H locs hP hS ls (lv_sub hl [] rfl)
      · have hf := ifT ((lgc_eq _ _).mp c11) hf
        refine lv_goto (tgt := 59) hx hb dX9_worst_35 (by decide) ?_
        exact J59 y1 a3 hf H locs hP hS ls (lv_sub hl [0, 1, 2] rfl)
  obtain ⟨ex4, hlp4, hf⟩ := bdP hf
  refine LP4 (0, 0, (σ.2.2.1 1163)) ex4 hlp4 H locs hP hS ls (lv_sub hl [2, 1, 0] rfl) ?_ ?_
  · intro a17 hex4 H locs hP hS ls hl
    subst ex4
    dsimp only [sE_l, sE_r] at hf
    refine lv_bipush hx hb dX9_worst_50 bp_m2 ?_
    cases hf
    rw [hQ]; exact g_iret hx hb hr hlk hP hS dX9_worst_52
  · intro y18 a19 hex4 H locs hP hS ls hl
    subst ex4
    dsimp only [sE_l, sE_r] at hf
    refine lv_iload_n hx hb dX9_worst_65 rfl (lv_at hl 0 rfl) ?_
    cases hf
    rw [hQ]; exact g_iret hx hb hr hlk hP hS dX9_worst_66
theorem kxX9_worst_p4 (l : Launch) (D : va_G) (G : Nat → ClassId) {dsc : Nat → Option Dsc} {ad : Nat → Nat} {σ : Sto} {nr nw nu : Nat} (hD : XD dsc nr nw nu) {r_ : Int32} {w_aI1163 : Nat → Int32} {z_L_places : Int32} (e_zI2008 : σ.1 2008 = z_L_places) {z_L_from : Int32} (e_zI2012 : σ.1 2012 = z_L_from) {z_L_to : Int32} (e_zI2013 : σ.1 2013 = z_L_to) {z_Ld_size : Int32} (e_zI2027 : σ.1 2027 = z_Ld_size) {z_Lw_size : Int32} (e_zI2032 : σ.1 2032 = z_Lw_size) {a_p4_far : Nat → Int32} (e_aI1163 : σ.2.2.1 1163 = a_p4_far) {a_UNIT : Nat → Int32} (e_aI1170 : σ.2.2.1 1170 = a_UNIT) {a_Lw_data : Nat → Int32} (e_aI2037 : σ.2.2.1 2037 = a_Lw_data) {a_L_seen : Nat → Int32} (e_aI2043 : σ.2.2.1 2043 = a_L_seen) {a_W_world : Nat → Int64} (e_aL1140 : σ.2.2.2.1 1140 = a_W_world) {n_r : Nat} (e_nN0 : nr = n_r) {n_w : Nat} (e_nN1 : nw = n_w) {p_road_hours : Nat → Int32} (e_pR2 : (fun k => σ.1 (6000 + 16 * k + 2)) = p_road_hours) {p_road_wait : Nat → Int32} (e_pR5 : (fun k => σ.1 (6000 + 16 * k + 5)) = p_road_wait) {p_road_number : Nat → Int32} (e_pR6 : (fun k => σ.1 (6000 + 16 * k + 6)) = p_road_number) {p_word_road : Nat → Int32} (e_pW1 : (fun k => σ.1 (8000 + 16 * k + 1)) = p_word_road) {p_word_hours : Nat → Int32} (e_pW2 : (fun k => σ.1 (8000 + 16 * k + 2)) = p_word_hours) {g_grid : Nat → Nat → Int32} (e_gG0 : (fun k => σ.2.2.1 (4000 + 16 * k)) = g_grid) (hf : xo_X9_worst_p4 z_L_places z_L_from z_L_to z_Ld_size z_Lw_size a_p4_far a_UNIT a_Lw_data a_L_seen a_W_world n_r n_w p_road_hours p_road_wait p_road_number p_word_road p_word_hours g_grid = some (r_, w_aI1163)) : CtG l D G dsc ad yX9_worst (ws_ yX9_worst cX9_worst 4 (Option.some Jvm.ClassFile.FieldType.int)) rmX9_worst_p4 [.ref (ad 1464)] σ (some (.int r_)) (aI σ 1163 w_aI1163) := by
  subst e_zI2008
  subst e_zI2012
  subst e_zI2013
  subst e_zI2027
  subst e_zI2032
  subst e_aI1163
  subst e_aI1170
  subst e_aI2037
  subst e_aI2043
  subst e_aL1140
  subst e_nN0
  subst e_nN1
  subst e_pR2
  subst e_pR5
  subst e_pR6
  subst e_pW1
  subst e_pW2
  subst e_gG0
  exact p_ctG (by decide +kernel) (Nat.le_of_ble_eq_true rfl) (fun p e s m below meth c0 ls A E hP hX hA hS hl => wkX9_worst_p4 E hX hD hA hf rfl hP hS hl)
/-! X9_worst_p5 ()I -/
def sgX9_worst_p5 (σ : Sto) (w0 : Nat → Int32) : Sto := aI σ 1160 w0
theorem sgX9_worst_p5_self (σ : Sto) : sgX9_worst_p5 σ (σ.2.2.1 1160) = σ := by
  unfold sgX9_worst_p5
  simp only [zI_self, zL_self, aI_self, aL_self]
theorem sgX9_worst_p5_aI1160 {σ : Sto} {w0 : Nat → Int32} {g : Nat → Int32} : aI (sgX9_worst_p5 σ w0) 1160 g = sgX9_worst_p5 σ g := aI_aI _ 1160 _ _
theorem sgX9_worst_p5_rzI1485 {σ : Sto} {w0 : Nat → Int32} : (sgX9_worst_p5 σ w0).1 1485 = σ.1 1485 := rfl
theorem sgX9_worst_p5_rzI2008 {σ : Sto} {w0 : Nat → Int32} : (sgX9_worst_p5 σ w0).1 2008 = σ.1 2008 := rfl
theorem sgX9_worst_p5_rzI2012 {σ : Sto} {w0 : Nat → Int32} : (sgX9_worst_p5 σ w0).1 2012 = σ.1 2012 := rfl
theorem sgX9_worst_p5_rzI2013 {σ : Sto} {w0 : Nat → Int32} : (sgX9_worst_p5 σ w0).1 2013 = σ.1 2013 := rfl
theorem sgX9_worst_p5_rzI2027 {σ : Sto} {w0 : Nat → Int32} : (sgX9_worst_p5 σ w0).1 2027 = σ.1 2027 := rfl
theorem sgX9_worst_p5_rzI2032 {σ : Sto} {w0 : Nat → Int32} : (sgX9_worst_p5 σ w0).1 2032 = σ.1 2032 := rfl
theorem sgX9_worst_p5_raI1160 {σ : Sto} {w0 : Nat → Int32} : (sgX9_worst_p5 σ w0).2.2.1 1160 = w0 := rfl
theorem sgX9_worst_p5_raI1164 {σ : Sto} {w0 : Nat → Int32} : (sgX9_worst_p5 σ w0).2.2.1 1164 = σ.2.2.1 1164 := rfl
theorem sgX9_worst_p5_raI1170 {σ : Sto} {w0 : Nat → Int32} : (sgX9_worst_p5 σ w0).2.2.1 1170 = σ.2.2.1 1170 := rfl
theorem sgX9_worst_p5_raI2037 {σ : Sto} {w0 : Nat → Int32} : (sgX9_worst_p5 σ w0).2.2.1 2037 = σ.2.2.1 2037 := rfl
theorem sgX9_worst_p5_raI2043 {σ : Sto} {w0 : Nat → Int32} : (sgX9_worst_p5 σ w0).2.2.1 2043 = σ.2.2.1 2043 := rfl
theorem sgX9_worst_p5_raL1140 {σ : Sto} {w0 : Nat → Int32} : (sgX9_worst_p5 σ w0).2.2.2.1 1140 = σ.2.2.2.1 1140 := rfl
theorem sgX9_worst_p5_rpR2 {σ : Sto} {w0 : Nat → Int32} : (fun k => (sgX9_worst_p5 σ w0).1 (6000 + 16 * k + 2)) = (fun k => σ.1 (6000 + 16 * k + 2)) := by
  funext k
  unfold sgX9_worst_p5
  dsimp only [zI, zL, aI, aL]
  repeat rw [if_neg (by omega)]
theorem sgX9_worst_p5_rpR5 {σ : Sto} {w0 : Nat → Int32} : (fun k => (sgX9_worst_p5 σ w0).1 (6000 + 16 * k + 5)) = (fun k => σ.1 (6000 + 16 * k + 5)) := by
  funext k
  unfold sgX9_worst_p5
  dsimp only [zI, zL, aI, aL]
  repeat rw [if_neg (by omega)]
theorem sgX9_worst_p5_rpR6 {σ : Sto} {w0 : Nat → Int32} : (fun k => (sgX9_worst_p5 σ w0).1 (6000 + 16 * k + 6)) = (fun k => σ.1 (6000 + 16 * k + 6)) := by
  funext k
  unfold sgX9_worst_p5
  dsimp only [zI, zL, aI, aL]
  repeat rw [if_neg (by omega)]
theorem sgX9_worst_p5_rpW1 {σ : Sto} {w0 : Nat → Int32} : (fun k => (sgX9_worst_p5 σ w0).1 (8000 + 16 * k + 1)) = (fun k => σ.1 (8000 + 16 * k + 1)) := by
  funext k
  unfold sgX9_worst_p5
  dsimp only [zI, zL, aI, aL]
  repeat rw [if_neg (by omega)]
theorem sgX9_worst_p5_rpW2 {σ : Sto} {w0 : Nat → Int32} : (fun k => (sgX9_worst_p5 σ w0).1 (8000 + 16 * k + 2)) = (fun k => σ.1 (8000 + 16 * k + 2)) := by
  funext k
  unfold sgX9_worst_p5
  dsimp only [zI, zL, aI, aL]
  repeat rw [if_neg (by omega)]
theorem sgX9_worst_p5_rgG0 {σ : Sto} {w0 : Nat → Int32} : (fun k => (sgX9_worst_p5 σ w0).2.2.1 (4000 + 16 * k)) = (fun k => σ.2.2.1 (4000 + 16 * k)) := by
  funext k
  unfold sgX9_worst_p5
  dsimp only [zI, zL, aI, aL]
  repeat rw [if_neg (by omega)]
abbrev rmX9_worst_p5 : Room := { frames := 5, cells := 0, slots := 0, locals := 124 }
set_option maxHeartbeats 4000000 in
theorem wkX9_worst_p5 {r_ : Int32} {w_aI1160 : Nat → Int32} (E : EN p s m args meth c0 RX9 cX9_worst 4 (Option.some Jvm.ClassFile.FieldType.int)) (hX : KX D G ad A s s.heap) (hD : XD dsc nr nw nu) (hA : ∀ q, PA dsc ad s.heap.size q → A q) (hf : xo_X9_worst_p5 (σ.1 1485) (σ.1 2008) (σ.1 2012) (σ.1 2013) (σ.1 2027) (σ.1 2032) (σ.2.2.1 1160) (σ.2.2.1 1164) (σ.2.2.1 1170) (σ.2.2.1 2037) (σ.2.2.1 2043) (σ.2.2.2.1 1140) nr nw (fun k => σ.1 (6000 + 16 * k + 2)) (fun k => σ.1 (6000 + 16 * k + 5)) (fun k => σ.1 (6000 + 16 * k + 6)) (fun k => σ.1 (8000 + 16 * k + 1)) (fun k => σ.1 (8000 + 16 * k + 2)) (fun k => σ.2.2.1 (4000 + 16 * k)) = some (r_, w_aI1160)) (hQ : Q = MQ below (va_G1 (some (.int r_)) (fun t => PIC D clsA G dsc ad (sgX9_worst_p5 σ w_aI1160) t.heap) A) args s 0 0 A) (hP : PIC D clsA G dsc ad σ H) (hS : va_S A s.heap H locs) (hl : lv_has ls 4 [(0, .ref (ad 1480))]) : W p l e rmX9_worst_p5 s m args below meth c0 H locs 0 0 Q (F0 m 0 ls []) := by
  obtain ⟨⟨hx, hb, hml, hown, hts⟩, hr, hlk⟩ := id E
  have hP := hP.to (sgX9_worst_p5_self σ).symm
  unfold xo_X9_worst_p5 at hf
  refine lv_iconst hx hb dX9_worst_0 ic_0 ?_
  refine lv_istore_n (lv' := [(1, .int 0), (0, .ref (ad 1480))]) hx hb dX9_worst_1 rfl hl (by decide) rfl (fun ls hl => ?_)
  refine lv_iconst hx hb dX9_worst_2 ic_0 ?_
  refine lv_istore_n (lv' := [(2, .int 0), (1, .int 0), (0, .ref (ad 1480))]) hx hb dX9_worst_3 rfl hl (by decide) rfl (fun ls hl => ?_)
  have LP4 : ∀ (st4 : Int32 × Int32 × (Nat → Int32)) (ex4 : ((Nat → Int32)) ⊕ (Int32 × (Nat → Int32))), loop (xo_X9_worst_p5_L4 (σ.1 1485) (σ.1 2008) (σ.1 2012) (σ.1 2013) (σ.1 2027) (σ.1 2032) (σ.2.2.1 1164) (σ.2.2.1 1170) (σ.2.2.1 2037) (σ.2.2.1 2043) (σ.2.2.2.1 1140) nr nw (fun k => σ.1 (6000 + 16 * k + 2)) (fun k => σ.1 (6000 + 16 * k + 5)) (fun k => σ.1 (6000 + 16 * k + 6)) (fun k => σ.1 (8000 + 16 * k + 1)) (fun k => σ.1 (8000 + 16 * k + 2)) (fun k => σ.2.2.1 (4000 + 16 * k))) st4 = some ex4 → ∀ (H : Heap) (locs : List Loc), PIC D clsA G dsc ad (sgX9_worst_p5 σ (st4.2.2)) H → va_S A s.heap H locs → ∀ (ls : Array Slot), lv_has ls 4 [(0, .ref (ad 1480)), (1, .int (st4.1)), (2, .int (st4.2.1))] → (∀ (a17 : Nat → Int32), ex4 = (.inl a17) → ∀ (H : Heap) (locs : List Loc), PIC D clsA G dsc ad (sgX9_worst_p5 σ a17) H → va_S A s.heap H locs → ∀ (ls : Array Slot), lv_has ls 4 [] → W p l e rmX9_worst_p5 s m args below meth c0 H locs 0 0 Q (F0 m 50 ls [])) → (∀ (y18 : Int32) (a19 : Nat → Int32), ex4 = (.inr (y18, a19)) → ∀ (H : Heap) (locs : List Loc), PIC D clsA G dsc ad (sgX9_worst_p5 σ a19) H → va_S A s.heap H locs → ∀ (ls : Array Slot), lv_has ls 4 [(1, .int y18)] → W p l e rmX9_worst_p5 s m args below meth c0 H locs 0 0 Q (F0 m 65 ls [])) → W p l e rmX9_worst_p5 s m args below meth c0 H locs 0 0 Q (F0 m 4 ls []) := by
    refine loop_P (fun st4 ex4 o4 hf ih4 hx4 => ?_)
    obtain ⟨y1, y2, a3⟩ := st4
    intro H locs (hP : PIC D clsA G dsc ad (sgX9_worst_p5 σ a3) H) hS ls (hl : lv_has ls 4 [(0, .ref (ad 1480)), (1, .int y1), (2, .int y2)]) KE4_0 KE4_1
    dsimp only [xo_X9_worst_p5_L4] at hf
    refine lv_iload_n hx hb dX9_worst_4 rfl (lv_at hl 2 rfl) ?_
    refine lv_aload_n hx hb dX9_worst_5 rfl (lv_at hl 0 rfl) ?_
    refine gx_X9_3_1480 E hX hD hP dX9_worst_6 ?_
    refine gx_X9_15_1000 E hX hD hP dX9_worst_9 ?_
    obtain ⟨v4, u5, hf⟩ := bdP hf
    refine cx_X9_60_X3_worlds E hX hD hP hS hA (kxX3_worlds l D G hD sgX9_worst_p5_rzI2027 u5) ⟨rfl, rfl⟩ ⟨Nat.le_of_ble_eq_true rfl, Nat.le_of_ble_eq_true rfl⟩ ⟨Nat.zero_le _, Nat.zero_le _⟩ hl.1 (Nat.le_of_ble_eq_true rfl) dX9_worst_12 (fun H locs hP hS => ?_)
    refine lv_icmp_ge (tgt := 65) hx hb dX9_worst_15 (by decide) (fun c6 => ?_) (fun c6 => ?_)
    · have hf := ifT c6 hf
      exact KE4_1 _ _ (hx4 _ (Option.some.inj hf).symm).symm H locs hP hS ls (lv_sub hl [1] rfl)
    · have hf := ifF c6 hf
      refine lv_aload_n hx hb dX9_worst_18 rfl (lv_at hl 0 rfl) ?_
      refine gx_X9_3_1480 E hX hD hP dX9_worst_19 ?_
      refine gx_X9_64_1000 E hX hD hP dX9_worst_22 ?_
      refine gx_X9_68_1050 E hX hD hP dX9_worst_25 ?_
      refine lv_iload_n hx hb dX9_worst_28 rfl (lv_at hl 2 rfl) ?_
      obtain ⟨v7, hv7, hf⟩ := bdP hf
      refine p_lald hx hb hX.1 hP (hD.1 _ _ dX_1140) sgX9_worst_p5_raL1140 hv7 dX9_worst_29 ?_
      refine lv_lconst hx hb dX9_worst_30 lc_0 ?_
      refine W.lcmp hx hb dX9_worst_31 ?_
      have J59 : ∀ (y8 : Int32) (a9 : Nat → Int32), xo_X9_worst_p5_J59 y2 y8 a9 = some o4 → ∀ (H : Heap) (locs : List Loc), PIC D clsA G dsc ad (sgX9_worst_p5 σ a9) H → va_S A s.heap H locs → ∀ (ls : Array Slot), lv_has ls 4 [(0, .ref (ad 1480)), (1, .int y8), (2, .int y2)] → W p l e rmX9_worst_p5 s m args below meth c0 H locs 0 0 Q (F0 m 59 ls []) := by
        intro y8 a9 hf H locs hP hS ls hl
        unfold xo_X9_worst_p5_J59 at hf
        obtain ⟨v10, hv10, hf⟩ := bdP hf
        refine lv_iinc (v := v10) (lv' := [(2, .int v10), (0, .ref (ad 1480)), (1, .int y8)]) hx hb dX9_worst_59 hl (k := 2) rfl (Option.some.inj hv10) (by decide) rfl (fun ls hl => ?_)
        refine lv_goto (tgt := 4) hx hb dX9_worst_62 (by decide) ?_
        exact ih4 _ (Option.some.inj hf).symm H locs hP hS ls (lv_sub hl [1, 2, 0] rfl) KE4_0 KE4_1
      refine lv_if_ne (tgt := 38) hx hb dX9_worst_32 (by decide) (fun c11 => ?_) (fun c11 => ?_)
      · have hf := ifF (mt (lgc_eq _ _).mpr c11) hf
        refine lv_aload_n hx hb dX9_worst_38 rfl (lv_at hl 0 rfl) ?_
        refine lv_iload_n hx hb dX9_worst_39 rfl (lv_at hl 2 rfl) ?_
        obtain ⟨⟨v12, a13⟩, u14, hf⟩ := bdP hf
        dsimp only at hf
        refine cx_X9_74_X9_hours_p5 E hX hD hP hS hA (kxX9_hours_p5 l D G hD sgX9_worst_p5_rzI1485 sgX9_worst_p5_rzI2008 sgX9_worst_p5_rzI2012 sgX9_worst_p5_rzI2013 sgX9_worst_p5_rzI2027 sgX9_worst_p5_rzI2032 sgX9_worst_p5_raI1160 sgX9_worst_p5_raI1164 sgX9_worst_p5_raI1170 sgX9_worst_p5_raI2037 sgX9_worst_p5_raI2043 rfl rfl sgX9_worst_p5_rpR2 sgX9_worst_p5_rpR5 sgX9_worst_p5_rpR6 sgX9_worst_p5_rpW1 sgX9_worst_p5_rpW2 sgX9_worst_p5_rgG0 u14) ⟨rfl, rfl⟩ ⟨Nat.le_of_ble_eq_true rfl, Nat.le_of_ble_eq_true rfl⟩ ⟨Nat.zero_le _, Nat.zero_le _⟩ hl.1 (Nat.le_of_ble_eq_true rfl) dX9_worst_40 (fun H locs hP hS => ?_)
        rw [sgX9_worst_p5_aI1160] at hP
        refine lv_istore_n (lv' := [(3, .int v12), (0, .ref (ad 1480)), (1, .int y1), (2, .int y2)]) hx hb dX9_worst_43 rfl hl (by decide) rfl (fun ls hl => ?_)
        refine lv_iload_n hx hb dX9_worst_44 rfl (lv_at hl 0 rfl) ?_
        refine lv_bipush hx hb dX9_worst_45 bp_m2 ?_
        refine lv_icmp_ne (tgt := 53) hx hb dX9_worst_47 (by decide) (fun c15 => ?_) (fun c15 => ?_)
        · have hf := ifF c15 hf
          refine lv_iload_n hx hb dX9_worst_53 rfl (lv_at hl 2 rfl) ?_
          refine lv_iload_n hx hb dX9_worst_54 rfl (lv_at hl 0 rfl) ?_
          refine va_mmax hx hb (hml.trans hl.1.symm) hown (hts _ q1317) (hts _ q892) (hts _ q152) (hts _ q893) (Nat.le_of_ble_eq_true rfl) (Nat.le_of_ble_eq_true rfl) (Nat.zero_le _) (Nat.zero_le _) dX9_worst_55 ?_
          obtain ⟨v16, hv16, hf⟩ := bdP hf
          refine nm_i (Option.some.inj hv16) ?_
          refine lv_istore_n (lv' := [(1, .int v16), (3, .int v12), (0, .ref (ad 1480)), (2, .int y2)]) hx hb dX9_worst_58 rfl hl (by decide) rfl (fun ls hl => ?_)
          exact J59 v16 a13 hf H locs hP hS ls (lv_sub hl [2, 0, 3] rfl)
        · have hf := ifT c15 hf
          exact KE4_0 _ (hx4 _ (Option.some.inj hf).symm).symm H locs hP hS ls (lv_sub hl [] rfl)
      · have hf := ifT ((lgc_eq _ _).mp c11) hf
        refine lv_goto (tgt := 59) hx hb dX9_worst_35 (by decide) ?_
        exact J59 y1 a3 hf H locs hP hS ls (lv_sub hl [0, 1, 2] rfl)
  obtain ⟨ex4, hlp4, hf⟩ := bdP hf
  refine LP4 (0, 0, (σ.2.2.1 1160)) ex4 hlp4 H locs hP hS ls (lv_sub hl [2, 1, 0] rfl) ?_ ?_
  · intro a17 hex4 H locs hP hS ls hl
    subst ex4
    dsimp only [sE_l, sE_r] at hf
    refine lv_bipush hx hb dX9_worst_50 bp_m2 ?_
    cases hf
    rw [hQ]; exact g_iret hx hb hr hlk hP hS dX9_worst_52
  · intro y18 a19 hex4 H locs hP hS ls hl
    subst ex4
    dsimp only [sE_l, sE_r] at hf
    refine lv_iload_n hx hb dX9_worst_65 rfl (lv_at hl 0 rfl) ?_
    cases hf
    rw [hQ]; exact g_iret hx hb hr hlk hP hS dX9_worst_66
theorem kxX9_worst_p5 (l : Launch) (D : va_G) (G : Nat → ClassId) {dsc : Nat → Option Dsc} {ad : Nat → Nat} {σ : Sto} {nr nw nu : Nat} (hD : XD dsc nr nw nu) {r_ : Int32} {w_aI1160 : Nat → Int32} {z_p5_many : Int32} (e_zI1485 : σ.1 1485 = z_p5_many) {z_L_places : Int32} (e_zI2008 : σ.1 2008 = z_L_places) {z_L_from : Int32} (e_zI2012 : σ.1 2012 = z_L_from) {z_L_to : Int32} (e_zI2013 : σ.1 2013 = z_L_to) {z_Ld_size : Int32} (e_zI2027 : σ.1 2027 = z_Ld_size) {z_Lw_size : Int32} (e_zI2032 : σ.1 2032 = z_Lw_size) {a_p5_far : Nat → Int32} (e_aI1160 : σ.2.2.1 1160 = a_p5_far) {a_p5_row : Nat → Int32} (e_aI1164 : σ.2.2.1 1164 = a_p5_row) {a_UNIT : Nat → Int32} (e_aI1170 : σ.2.2.1 1170 = a_UNIT) {a_Lw_data : Nat → Int32} (e_aI2037 : σ.2.2.1 2037 = a_Lw_data) {a_L_seen : Nat → Int32} (e_aI2043 : σ.2.2.1 2043 = a_L_seen) {a_W_world : Nat → Int64} (e_aL1140 : σ.2.2.2.1 1140 = a_W_world) {n_r : Nat} (e_nN0 : nr = n_r) {n_w : Nat} (e_nN1 : nw = n_w) {p_road_hours : Nat → Int32} (e_pR2 : (fun k => σ.1 (6000 + 16 * k + 2)) = p_road_hours) {p_road_wait : Nat → Int32} (e_pR5 : (fun k => σ.1 (6000 + 16 * k + 5)) = p_road_wait) {p_road_number : Nat → Int32} (e_pR6 : (fun k => σ.1 (6000 + 16 * k + 6)) = p_road_number) {p_word_road : Nat → Int32} (e_pW1 : (fun k => σ.1 (8000 + 16 * k + 1)) = p_word_road) {p_word_hours : Nat → Int32} (e_pW2 : (fun k => σ.1 (8000 + 16 * k + 2)) = p_word_hours) {g_grid : Nat → Nat → Int32} (e_gG0 : (fun k => σ.2.2.1 (4000 + 16 * k)) = g_grid) (hf : xo_X9_worst_p5 z_p5_many z_L_places z_L_from z_L_to z_Ld_size z_Lw_size a_p5_far a_p5_row a_UNIT a_Lw_data a_L_seen a_W_world n_r n_w p_road_hours p_road_wait p_road_number p_word_road p_word_hours g_grid = some (r_, w_aI1160)) : CtG l D G dsc ad yX9_worst (ws_ yX9_worst cX9_worst 4 (Option.some Jvm.ClassFile.FieldType.int)) rmX9_worst_p5 [.ref (ad 1480)] σ (some (.int r_)) (aI σ 1160 w_aI1160) := by
  subst e_zI1485
  subst e_zI2008
  subst e_zI2012
  subst e_zI2013
  subst e_zI2027
  subst e_zI2032
  subst e_aI1160
  subst e_aI1164
  subst e_aI1170
  subst e_aI2037
  subst e_aI2043
  subst e_aL1140
  subst e_nN0
  subst e_nN1
  subst e_pR2
  subst e_pR5
  subst e_pR6
  subst e_pW1
  subst e_pW2
  subst e_gG0
  exact p_ctG (by decide +kernel) (Nat.le_of_ble_eq_true rfl) (fun p e s m below meth c0 ls A E hP hX hA hS hl => wkX9_worst_p5 E hX hD hA hf rfl hP hS hl)
/-! X9_worst_p6 ()I -/
abbrev rmX9_worst_p6 : Room := { frames := 5, cells := 0, slots := 0, locals := 116 }
set_option maxHeartbeats 4000000 in
theorem wkX9_worst_p6 {r_ : Int32} (E : EN p s m args meth c0 RX9 cX9_worst 4 (Option.some Jvm.ClassFile.FieldType.int)) (hX : KX D G ad A s s.heap) (hD : XD dsc nr nw nu) (hA : ∀ q, PA dsc ad s.heap.size q → A q) (hf : xo_X9_worst_p6 (σ.1 1262) (σ.1 2012) (σ.1 2013) (σ.1 2027) (σ.1 2032) (σ.2.2.1 1170) (σ.2.2.1 1265) (σ.2.2.1 2037) (σ.2.2.1 2043) (σ.2.2.2.1 1140) nr nw nu (fun k => σ.1 (6000 + 16 * k + 2)) (fun k => σ.1 (6000 + 16 * k + 5)) (fun k => σ.1 (6000 + 16 * k + 6)) (fun k => σ.1 (8000 + 16 * k + 1)) (fun k => σ.1 (8000 + 16 * k + 2)) (fun k => σ.1 (10000 + 16 * k + 0)) (fun k => σ.1 (10000 + 16 * k + 1)) (fun k => σ.1 (10000 + 16 * k + 2)) (fun k => σ.1 (10000 + 16 * k + 3)) (fun k => σ.2.2.1 (4000 + 16 * k)) = some r_) (hQ : Q = MQ below (va_G1 (some (.int r_)) (fun t => PIC D clsA G dsc ad σ t.heap) A) args s 0 0 A) (hP : PIC D clsA G dsc ad σ H) (hS : va_S A s.heap H locs) (hl : lv_has ls 4 [(0, .ref (ad 1496))]) : W p l e rmX9_worst_p6 s m args below meth c0 H locs 0 0 Q (F0 m 0 ls []) := by
  obtain ⟨⟨hx, hb, hml, hown, hts⟩, hr, hlk⟩ := id E
  unfold xo_X9_worst_p6 at hf
  refine lv_iconst hx hb dX9_worst_0 ic_0 ?_
  refine lv_istore_n (lv' := [(1, .int 0), (0, .ref (ad 1496))]) hx hb dX9_worst_1 rfl hl (by decide) rfl (fun ls hl => ?_)
  refine lv_iconst hx hb dX9_worst_2 ic_0 ?_
  refine lv_istore_n (lv' := [(2, .int 0), (1, .int 0), (0, .ref (ad 1496))]) hx hb dX9_worst_3 rfl hl (by decide) rfl (fun ls hl => ?_)
  have LP4 : ∀ (st4 : Int32 × Int32) (ex4 : (Unit) ⊕ (Int32)), loop (xo_X9_worst_p6_L4 (σ.1 1262) (σ.1 2012) (σ.1 2013) (σ.1 2027) (σ.1 2032) (σ.2.2.1 1170) (σ.2.2.1 1265) (σ.2.2.1 2037) (σ.2.2.1 2043) (σ.2.2.2.1 1140) nr nw nu (fun k => σ.1 (6000 + 16 * k + 2)) (fun k => σ.1 (6000 + 16 * k + 5)) (fun k => σ.1 (6000 + 16 * k + 6)) (fun k => σ.1 (8000 + 16 * k + 1)) (fun k => σ.1 (8000 + 16 * k + 2)) (fun k => σ.1 (10000 + 16 * k + 0)) (fun k => σ.1 (10000 + 16 * k + 1)) (fun k => σ.1 (10000 + 16 * k + 2)) (fun k => σ.1 (10000 + 16 * k + 3)) (fun k => σ.2.2.1 (4000 + 16 * k))) st4 = some ex4 → ∀ (H : Heap) (locs : List Loc), PIC D clsA G dsc ad σ H → va_S A s.heap H locs → ∀ (ls : Array Slot), lv_has ls 4 [(0, .ref (ad 1496)), (1, .int (st4.1)), (2, .int (st4.2))] → (ex4 = (.inl (())) → ∀ (H : Heap) (locs : List Loc), PIC D clsA G dsc ad σ H → va_S A s.heap H locs → ∀ (ls : Array Slot), lv_has ls 4 [] → W p l e rmX9_worst_p6 s m args below meth c0 H locs 0 0 Q (F0 m 50 ls [])) → (∀ (y14 : Int32), ex4 = (.inr y14) → ∀ (H : Heap) (locs : List Loc), PIC D clsA G dsc ad σ H → va_S A s.heap H locs → ∀ (ls : Array Slot), lv_has ls 4 [(1, .int y14)] → W p l e rmX9_worst_p6 s m args below meth c0 H locs 0 0 Q (F0 m 65 ls [])) → W p l e rmX9_worst_p6 s m args below meth c0 H locs 0 0 Q (F0 m 4 ls []) := by
    refine loop_P (fun st4 ex4 o4 hf ih4 hx4 => ?_)
    obtain ⟨y1, y2⟩ := st4
    intro H locs (hP : PIC D clsA G dsc ad σ H) hS ls (hl : lv_has ls 4 [(0, .ref (ad 1496)), (1, .int y1), (2, .int y2)]) KE4_0 KE4_1
    dsimp only [xo_X9_worst_p6_L4] at hf
    refine lv_iload_n hx hb dX9_worst_4 rfl (lv_at hl 2 rfl) ?_
    refine lv_aload_n hx hb dX9_worst_5 rfl (lv_at hl 0 rfl) ?_
    refine gx_X9_3_1496 E hX hD hP dX9_worst_6 ?_
    refine gx_X9_15_1000 E hX hD hP dX9_worst_9 ?_
    obtain ⟨v3, u4, hf⟩ := bdP hf
    refine cx_X9_60_X3_worlds E hX hD hP hS hA (kxX3_worlds l D G hD rfl u4) ⟨rfl, rfl⟩ ⟨Nat.le_of_ble_eq_true rfl, Nat.le_of_ble_eq_true rfl⟩ ⟨Nat.zero_le _, Nat.zero_le _⟩ hl.1 (Nat.le_of_ble_eq_true rfl) dX9_worst_12 (fun H locs hP hS => ?_)
    refine lv_icmp_ge (tgt := 65) hx hb dX9_worst_15 (by decide) (fun c5 => ?_) (fun c5 => ?_)
    · have hf := ifT c5 hf
      exact KE4_1 _ (hx4 _ (Option.some.inj hf).symm).symm H locs hP hS ls (lv_sub hl [1] rfl)
    · have hf := ifF c5 hf
      refine lv_aload_n hx hb dX9_worst_18 rfl (lv_at hl 0 rfl) ?_
      refine gx_X9_3_1496 E hX hD hP dX9_worst_19 ?_
      refine gx_X9_64_1000 E hX hD hP dX9_worst_22 ?_
      refine gx_X9_68_1050 E hX hD hP dX9_worst_25 ?_
      refine lv_iload_n hx hb dX9_worst_28 rfl (lv_at hl 2 rfl) ?_
      obtain ⟨v6, hv6, hf⟩ := bdP hf
      refine p_lald hx hb hX.1 hP (hD.1 _ _ dX_1140) rfl hv6 dX9_worst_29 ?_
      refine lv_lconst hx hb dX9_worst_30 lc_0 ?_
      refine W.lcmp hx hb dX9_worst_31 ?_
      have J59 : ∀ (y7 : Int32), xo_X9_worst_p6_J59 y2 y7 = some o4 → ∀ (H : Heap) (locs : List Loc), PIC D clsA G dsc ad σ H → va_S A s.heap H locs → ∀ (ls : Array Slot), lv_has ls 4 [(0, .ref (ad 1496)), (1, .int y7), (2, .int y2)] → W p l e rmX9_worst_p6 s m args below meth c0 H locs 0 0 Q (F0 m 59 ls []) := by
        intro y7 hf H locs hP hS ls hl
        unfold xo_X9_worst_p6_J59 at hf
        obtain ⟨v8, hv8, hf⟩ := bdP hf
        refine lv_iinc (v := v8) (lv' := [(2, .int v8), (0, .ref (ad 1496)), (1, .int y7)]) hx hb dX9_worst_59 hl (k := 2) rfl (Option.some.inj hv8) (by decide) rfl (fun ls hl => ?_)
        refine lv_goto (tgt := 4) hx hb dX9_worst_62 (by decide) ?_
        exact ih4 _ (Option.some.inj hf).symm H locs hP hS ls (lv_sub hl [1, 2, 0] rfl) KE4_0 KE4_1
      refine lv_if_ne (tgt := 38) hx hb dX9_worst_32 (by decide) (fun c9 => ?_) (fun c9 => ?_)
      · have hf := ifF (mt (lgc_eq _ _).mpr c9) hf
        refine lv_aload_n hx hb dX9_worst_38 rfl (lv_at hl 0 rfl) ?_
        refine lv_iload_n hx hb dX9_worst_39 rfl (lv_at hl 2 rfl) ?_
        obtain ⟨v10, u11, hf⟩ := bdP hf
        refine cx_X9_74_X9_hours_p6 E hX hD hP hS hA (kxX9_hours_p6 l D G hD rfl rfl rfl rfl rfl rfl rfl rfl rfl rfl rfl rfl rfl rfl rfl rfl rfl rfl rfl rfl rfl rfl u11) ⟨rfl, rfl⟩ ⟨Nat.le_of_ble_eq_true rfl, Nat.le_of_ble_eq_true rfl⟩ ⟨Nat.zero_le _, Nat.zero_le _⟩ hl.1 (Nat.le_of_ble_eq_true rfl) dX9_worst_40 (fun H locs hP hS => ?_)
        refine lv_istore_n (lv' := [(3, .int v10), (0, .ref (ad 1496)), (1, .int y1), (2, .int y2)]) hx hb dX9_worst_43 rfl hl (by decide) rfl (fun ls hl => ?_)
        refine lv_iload_n hx hb dX9_worst_44 rfl (lv_at hl 0 rfl) ?_
        refine lv_bipush hx hb dX9_worst_45 bp_m2 ?_
        refine lv_icmp_ne (tgt := 53) hx hb dX9_worst_47 (by decide) (fun c12 => ?_) (fun c12 => ?_)
        · have hf := ifF c12 hf
          refine lv_iload_n hx hb dX9_worst_53 rfl (lv_at hl 2 rfl) ?_
          refine lv_iload_n hx hb dX9_worst_54 rfl (lv_at hl 0 rfl) ?_
          refine va_mmax hx hb (hml.trans hl.1.symm) hown (hts _ q1317) (hts _ q892) (hts _ q152) (hts _ q893) (Nat.le_of_ble_eq_true rfl) (Nat.le_of_ble_eq_true rfl) (Nat.zero_le _) (Nat.zero_le _) dX9_worst_55 ?_
          obtain ⟨v13, hv13, hf⟩ := bdP hf
          refine nm_i (Option.some.inj hv13) ?_
          refine lv_istore_n (lv' := [(1, .int v13), (3, .int v10), (0, .ref (ad 1496)), (2, .int y2)]) hx hb dX9_worst_58 rfl hl (by decide) rfl (fun ls hl => ?_)
          exact J59 v13 hf H locs hP hS ls (lv_sub hl [2, 0, 3] rfl)
        · have hf := ifT c12 hf
          exact KE4_0  (hx4 _ (Option.some.inj hf).symm).symm H locs hP hS ls (lv_sub hl [] rfl)
      · have hf := ifT ((lgc_eq _ _).mp c9) hf
        refine lv_goto (tgt := 59) hx hb dX9_worst_35 (by decide) ?_
        exact J59 y1 hf H locs hP hS ls (lv_sub hl [0, 1, 2] rfl)
  obtain ⟨ex4, hlp4, hf⟩ := bdP hf
  refine LP4 (0, 0) ex4 hlp4 H locs hP hS ls (lv_sub hl [2, 1, 0] rfl) ?_ ?_
  · intro  hex4 H locs hP hS ls hl
    subst ex4
    dsimp only [sE_l, sE_r] at hf
    refine lv_bipush hx hb dX9_worst_50 bp_m2 ?_
    cases hf
    rw [hQ]; exact g_iret hx hb hr hlk hP hS dX9_worst_52
  · intro y14 hex4 H locs hP hS ls hl
    subst ex4
    dsimp only [sE_l, sE_r] at hf
    refine lv_iload_n hx hb dX9_worst_65 rfl (lv_at hl 0 rfl) ?_
    cases hf
    rw [hQ]; exact g_iret hx hb hr hlk hP hS dX9_worst_66
theorem kxX9_worst_p6 (l : Launch) (D : va_G) (G : Nat → ClassId) {dsc : Nat → Option Dsc} {ad : Nat → Nat} {σ : Sto} {nr nw nu : Nat} (hD : XD dsc nr nw nu) {r_ : Int32} {z_ru_size : Int32} (e_zI1262 : σ.1 1262 = z_ru_size) {z_L_from : Int32} (e_zI2012 : σ.1 2012 = z_L_from) {z_L_to : Int32} (e_zI2013 : σ.1 2013 = z_L_to) {z_Ld_size : Int32} (e_zI2027 : σ.1 2027 = z_Ld_size) {z_Lw_size : Int32} (e_zI2032 : σ.1 2032 = z_Lw_size) {a_UNIT : Nat → Int32} (e_aI1170 : σ.2.2.1 1170 = a_UNIT) {a_ru_data : Nat → Int32} (e_aI1265 : σ.2.2.1 1265 = a_ru_data) {a_Lw_data : Nat → Int32} (e_aI2037 : σ.2.2.1 2037 = a_Lw_data) {a_L_seen : Nat → Int32} (e_aI2043 : σ.2.2.1 2043 = a_L_seen) {a_W_world : Nat → Int64} (e_aL1140 : σ.2.2.2.1 1140 = a_W_world) {n_r : Nat} (e_nN0 : nr = n_r) {n_w : Nat} (e_nN1 : nw = n_w) {n_u : Nat} (e_nN2 : nu = n_u) {p_road_hours : Nat → Int32} (e_pR2 : (fun k => σ.1 (6000 + 16 * k + 2)) = p_road_hours) {p_road_wait : Nat → Int32} (e_pR5 : (fun k => σ.1 (6000 + 16 * k + 5)) = p_road_wait) {p_road_number : Nat → Int32} (e_pR6 : (fun k => σ.1 (6000 + 16 * k + 6)) = p_road_number) {p_word_road : Nat → Int32} (e_pW1 : (fun k => σ.1 (8000 + 16 * k + 1)) = p_word_road) {p_word_hours : Nat → Int32} (e_pW2 : (fun k => σ.1 (8000 + 16 * k + 2)) = p_word_hours) {p_rule_place : Nat → Int32} (e_pU0 : (fun k => σ.1 (10000 + 16 * k + 0)) = p_rule_place) {p_rule_road : Nat → Int32} (e_pU1 : (fun k => σ.1 (10000 + 16 * k + 1)) = p_rule_road) {p_rule_known : Nat → Int32} (e_pU2 : (fun k => σ.1 (10000 + 16 * k + 2)) = p_rule_known) {p_rule_to : Nat → Int32} (e_pU3 : (fun k => σ.1 (10000 + 16 * k + 3)) = p_rule_to) {g_grid : Nat → Nat → Int32} (e_gG0 : (fun k => σ.2.2.1 (4000 + 16 * k)) = g_grid) (hf : xo_X9_worst_p6 z_ru_size z_L_from z_L_to z_Ld_size z_Lw_size a_UNIT a_ru_data a_Lw_data a_L_seen a_W_world n_r n_w n_u p_road_hours p_road_wait p_road_number p_word_road p_word_hours p_rule_place p_rule_road p_rule_known p_rule_to g_grid = some r_) : CtG l D G dsc ad yX9_worst (ws_ yX9_worst cX9_worst 4 (Option.some Jvm.ClassFile.FieldType.int)) rmX9_worst_p6 [.ref (ad 1496)] σ (some (.int r_)) σ := by
  subst e_zI1262
  subst e_zI2012
  subst e_zI2013
  subst e_zI2027
  subst e_zI2032
  subst e_aI1170
  subst e_aI1265
  subst e_aI2037
  subst e_aI2043
  subst e_aL1140
  subst e_nN0
  subst e_nN1
  subst e_nN2
  subst e_pR2
  subst e_pR5
  subst e_pR6
  subst e_pW1
  subst e_pW2
  subst e_pU0
  subst e_pU1
  subst e_pU2
  subst e_pU3
  subst e_gG0
  exact p_ctG (by decide +kernel) (Nat.le_of_ble_eq_true rfl) (fun p e s m below meth c0 ls A E hP hX hA hS hl => wkX9_worst_p6 E hX hD hA hf rfl hP hS hl)
/-! J17_bitCount (I)I -/
abbrev rmJ17_bitCount : Room := { frames := 0, cells := 0, slots := 0, locals := 0 }
set_option maxHeartbeats 4000000 in
theorem wkJ17_bitCount {x0 : Int32} {r_ : Int32} (E : EN p s m args meth c0 RJ17 cJ17_bitCount 1 (Option.some Jvm.ClassFile.FieldType.int)) (hX : KX D G ad A s s.heap) (hD : XD dsc nr nw nu) (hA : ∀ q, PA dsc ad s.heap.size q → A q) (hf : xo_J17_bitCount x0 = some r_) (hQ : Q = MQ below (va_G1 (some (.int r_)) (fun t => PIC D clsA G dsc ad σ t.heap) A) args s 0 0 A) (hP : PIC D clsA G dsc ad σ H) (hS : va_S A s.heap H locs) (hl : lv_has ls 1 [(0, .int x0)]) : W p l e rmJ17_bitCount s m args below meth c0 H locs 0 0 Q (F0 m 0 ls []) := by
  obtain ⟨⟨hx, hb, hml, hown, hts⟩, hr, hlk⟩ := id E
  unfold xo_J17_bitCount at hf
  refine lv_iload_n hx hb dJ17_bitCount_0 rfl (lv_at hl 0 rfl) ?_
  refine lv_iload_n hx hb dJ17_bitCount_1 rfl (lv_at hl 0 rfl) ?_
  refine lv_iconst hx hb dJ17_bitCount_2 ic_1 ?_
  refine lv_iushr hx hb dJ17_bitCount_3 rfl ?_
  refine lv_ldcw hx hb hown (hts _ q1490) dJ17_bitCount_4 ?_
  refine lv_iand hx hb dJ17_bitCount_7 ?_
  refine lv_isub hx hb dJ17_bitCount_8 ?_
  obtain ⟨v1, hv1, hf⟩ := bdP hf
  refine nm_i (Option.some.inj hv1) ?_
  refine lv_istore_n (lv' := [(0, .int v1)]) hx hb dJ17_bitCount_9 rfl hl (by decide) rfl (fun ls hl => ?_)
  refine lv_iload_n hx hb dJ17_bitCount_10 rfl (lv_at hl 0 rfl) ?_
  refine lv_ldcw hx hb hown (hts _ q1491) dJ17_bitCount_11 ?_
  refine lv_iand hx hb dJ17_bitCount_14 ?_
  refine lv_iload_n hx hb dJ17_bitCount_15 rfl (lv_at hl 0 rfl) ?_
  refine lv_iconst hx hb dJ17_bitCount_16 ic_2 ?_
  refine lv_iushr hx hb dJ17_bitCount_17 rfl ?_
  refine lv_ldcw hx hb hown (hts _ q1491) dJ17_bitCount_18 ?_
  refine lv_iand hx hb dJ17_bitCount_21 ?_
  refine lv_iadd hx hb dJ17_bitCount_22 ?_
  obtain ⟨v2, hv2, hf⟩ := bdP hf
  refine nm_i (Option.some.inj hv2) ?_
  refine lv_istore_n (lv' := [(0, .int v2)]) hx hb dJ17_bitCount_23 rfl hl (by decide) rfl (fun ls hl => ?_)
  refine lv_iload_n hx hb dJ17_bitCount_24 rfl (lv_at hl 0 rfl) ?_
  refine lv_iload_n hx hb dJ17_bitCount_25 rfl (lv_at hl 0 rfl) ?_
  refine lv_iconst hx hb dJ17_bitCount_26 ic_4 ?_
  refine lv_iushr hx hb dJ17_bitCount_27 rfl ?_
  refine lv_iadd hx hb dJ17_bitCount_28 ?_
  refine lv_ldcw hx hb hown (hts _ q1492) dJ17_bitCount_29 ?_
  refine lv_iand hx hb dJ17_bitCount_32 ?_
  obtain ⟨v3, hv3, hf⟩ := bdP hf
  refine nm_i (Option.some.inj hv3) ?_
  refine lv_istore_n (lv' := [(0, .int v3)]) hx hb dJ17_bitCount_33 rfl hl (by decide) rfl (fun ls hl => ?_)
  refine lv_iload_n hx hb dJ17_bitCount_34 rfl (lv_at hl 0 rfl) ?_
  refine lv_iload_n hx hb dJ17_bitCount_35 rfl (lv_at hl 0 rfl) ?_
  refine lv_bipush hx hb dJ17_bitCount_36 bp_8 ?_
  refine lv_iushr hx hb dJ17_bitCount_38 rfl ?_
  refine lv_iadd hx hb dJ17_bitCount_39 ?_
  obtain ⟨v4, hv4, hf⟩ := bdP hf
  refine nm_i (Option.some.inj hv4) ?_
  refine lv_istore_n (lv' := [(0, .int v4)]) hx hb dJ17_bitCount_40 rfl hl (by decide) rfl (fun ls hl => ?_)
  refine lv_iload_n hx hb dJ17_bitCount_41 rfl (lv_at hl 0 rfl) ?_
  refine lv_iload_n hx hb dJ17_bitCount_42 rfl (lv_at hl 0 rfl) ?_
  refine lv_bipush hx hb dJ17_bitCount_43 bp_16 ?_
  refine lv_iushr hx hb dJ17_bitCount_45 rfl ?_
  refine lv_iadd hx hb dJ17_bitCount_46 ?_
  obtain ⟨v5, hv5, hf⟩ := bdP hf
  refine nm_i (Option.some.inj hv5) ?_
  refine lv_istore_n (lv' := [(0, .int v5)]) hx hb dJ17_bitCount_47 rfl hl (by decide) rfl (fun ls hl => ?_)
  refine lv_iload_n hx hb dJ17_bitCount_48 rfl (lv_at hl 0 rfl) ?_
  refine lv_bipush hx hb dJ17_bitCount_49 bp_63 ?_
  refine lv_iand hx hb dJ17_bitCount_51 ?_
  cases hf
  rw [hQ]; exact g_iret hx hb hr hlk hP hS dJ17_bitCount_52
theorem kxJ17_bitCount (l : Launch) (D : va_G) (G : Nat → ClassId) {dsc : Nat → Option Dsc} {ad : Nat → Nat} {σ : Sto} {nr nw nu : Nat} (hD : XD dsc nr nw nu) {x0 : Int32} {r_ : Int32} (hf : xo_J17_bitCount x0 = some r_) : CtG l D G dsc ad yJ17_bitCount (ws_ yJ17_bitCount cJ17_bitCount 1 (Option.some Jvm.ClassFile.FieldType.int)) rmJ17_bitCount [.int x0] σ (some (.int r_)) σ := by
  exact p_ctG (by decide +kernel) (Nat.le_of_ble_eq_true rfl) (fun p e s m below meth c0 ls A E hP hX hA hS hl => wkJ17_bitCount E hX hD hA hf rfl hP hS hl)
theorem gx_J2_9_2025 (E : EN p s m args meth c0 RJ2 cc nL ret) (hX : KX D G ad A s s.heap) (hD : XD dsc nr nw nu) (hP : PIC D clsA G dsc ad σ H) (hdg : decode cc pc = .ok (.getfield 9, 3)) (kk : W p l e R s m args below meth c0 H locs cells slots Q (F0 m (pc + 3) ls (.ref (ad 2036) :: rest))) : W p l e R s m args below meth c0 H locs cells slots Q (F0 m pc ls (.ref (ad 2025) :: rest)) :=
  p_get E.1.1 E.1.2.1 E.1.2.2.2.2 in_J2 E.1.2.2.2.1 hX.1 hP (hD.1 _ _ dX_2025) rfl 1 (by decide) (E.1.2.2.2.2 _ q222) (fun _ h => h) rfl rfl hdg kk
/-! J2_elementData_Ld (I)Ljava/lang/Object; -/
abbrev rmJ2_elementData_Ld : Room := { frames := 0, cells := 0, slots := 0, locals := 0 }
set_option maxHeartbeats 4000000 in
theorem wkJ2_elementData_Ld {x1 : Int32} {r_ : Int32} (E : EN p s m args meth c0 RJ2 cJ2_elementData 2 (Option.some (Jvm.ClassFile.FieldType.object "java/lang/Object"))) (hX : KX D G ad A s s.heap) (hD : XD dsc nr nw nu) (hA : ∀ q, PA dsc ad s.heap.size q → A q) (hf : xo_J2_elementData_Ld (σ.2.2.1 2036) x1 = some r_) (hQ : Q = MQ below (va_G1 (some (va_rf (drf ad 6000 r_))) (fun t => PIC D clsA G dsc ad σ t.heap) A) args s 0 0 A) (hP : PIC D clsA G dsc ad σ H) (hS : va_S A s.heap H locs) (hl : lv_has ls 2 [(0, .ref (ad 2025)), (1, .int x1)]) : W p l e rmJ2_elementData_Ld s m args below meth c0 H locs 0 0 Q (F0 m 0 ls []) := by
  obtain ⟨⟨hx, hb, hml, hown, hts⟩, hr, hlk⟩ := id E
  unfold xo_J2_elementData_Ld at hf
  refine lv_aload_n hx hb dJ2_elementData_0 rfl (lv_at hl 0 rfl) ?_
  refine gx_J2_9_2025 E hX hD hP dJ2_elementData_1 ?_
  refine lv_iload_n hx hb dJ2_elementData_4 rfl (lv_at hl 1 rfl) ?_
  obtain ⟨v1, hv1, hf⟩ := bdP hf
  refine p_aald6 hx hb hX.1 hP (hD.1 _ _ dX_2036) rfl hv1 dJ2_elementData_5 ?_
  cases hf
  rw [hQ]; exact g_aret hx hb hr hlk hP hS dJ2_elementData_6
theorem kxJ2_elementData_Ld (l : Launch) (D : va_G) (G : Nat → ClassId) {dsc : Nat → Option Dsc} {ad : Nat → Nat} {σ : Sto} {nr nw nu : Nat} (hD : XD dsc nr nw nu) {x1 : Int32} {r_ : Int32} {a_Ld_data : Nat → Int32} (e_aI2036 : σ.2.2.1 2036 = a_Ld_data) (hf : xo_J2_elementData_Ld a_Ld_data x1 = some r_) : CtG l D G dsc ad yJ2_elementData (ws_ yJ2_elementData cJ2_elementData 2 (Option.some (Jvm.ClassFile.FieldType.object "java/lang/Object"))) rmJ2_elementData_Ld [.ref (ad 2025), .int x1] σ (some (va_rf (drf ad 6000 r_))) σ := by
  subst e_aI2036
  exact p_ctG (by decide +kernel) (Nat.le_of_ble_eq_true rfl) (fun p e s m below meth c0 ls A E hP hX hA hS hl => wkJ2_elementData_Ld E hX hD hA hf rfl hP hS hl)
theorem cx_J2_123_J2_elementData_Ld {rm : Room} {σ1 : Sto} {x1 : Int32} {r : Int32} (E : EN p s m args meth c0 RJ2 cc nL ret) (hX : KX D G ad A s s.heap) (hD : XD dsc nr nw nu) (hP : PIC D clsA G dsc ad σ H) (hS : va_S A s.heap H locs) (hA : ∀ q, PA dsc ad s.heap.size q → A q) (hM : CtG l D G dsc ad yJ2_elementData (ws_ yJ2_elementData cJ2_elementData 2 (Option.some (Jvm.ClassFile.FieldType.object "java/lang/Object"))) rm [.ref (ad 2025), .int x1] σ (some (va_rf (drf ad 6000 r))) σ1) (hz : rm.cells = 0 ∧ rm.slots = 0) (hR : rm.frames + 1 ≤ R.frames ∧ 8 + (2 + 11) + rm.locals ≤ R.locals) (hcs : cells ≤ R.cells ∧ slots ≤ R.slots) (hsz : ls.size = nL) (hW : (rest.map fun v => v.category).sum ≤ 8) (hdg : decode cc pc = .ok (.invokevirtual 123, 3)) (kk : ∀ (H1 : Heap) (locs1 : List Loc), PIC D clsA G dsc ad σ1 H1 → va_S A s.heap H1 locs1 → W p l e R s m args below meth c0 H1 locs1 cells slots Q (F0 m (pc + 3) ls (va_rf (drf ad 6000 r) :: rest))) : W p l e R s m args below meth c0 H locs cells slots Q (F0 m pc ls (.int x1 :: .ref (ad 2025) :: rest)) :=
  p_gV (As := [.int x1]) (rest := rest) E.1 hX hP hS hA hM (cwV 1 E.1.2.2.2.2 (lw_V q1018 q1019 q1020 q129 q1021) rfl hz.1 hz.2 (by decide +kernel) hR) (hD.1 _ _ dX_2025) rfl rfl rfl hsz rfl hW hdg hcs kk
/-! J2_get_Ld (I)Ljava/lang/Object; -/
abbrev rmJ2_get_Ld : Room := { frames := 2, cells := 0, slots := 0, locals := 43 }
set_option maxHeartbeats 4000000 in
theorem wkJ2_get_Ld {x1 : Int32} {r_ : Int32} (E : EN p s m args meth c0 RJ2 cJ2_get 2 (Option.some (Jvm.ClassFile.FieldType.object "java/lang/Object"))) (hX : KX D G ad A s s.heap) (hD : XD dsc nr nw nu) (hA : ∀ q, PA dsc ad s.heap.size q → A q) (hf : xo_J2_get_Ld (σ.1 2027) (σ.2.2.1 2036) x1 = some r_) (hQ : Q = MQ below (va_G1 (some (va_rf (drf ad 6000 r_))) (fun t => PIC D clsA G dsc ad σ t.heap) A) args s 0 0 A) (hP : PIC D clsA G dsc ad σ H) (hS : va_S A s.heap H locs) (hl : lv_has ls 2 [(0, .ref (ad 2025)), (1, .int x1)]) : W p l e rmJ2_get_Ld s m args below meth c0 H locs 0 0 Q (F0 m 0 ls []) := by
  obtain ⟨⟨hx, hb, hml, hown, hts⟩, hr, hlk⟩ := id E
  unfold xo_J2_get_Ld at hf
  refine lv_iload_n hx hb dJ2_get_0 rfl (lv_at hl 1 rfl) ?_
  refine lv_aload_n hx hb dJ2_get_1 rfl (lv_at hl 0 rfl) ?_
  refine gx_J2_48_2025 (v := (σ.1 2027)) E hX hD hP rfl dJ2_get_2 ?_
  obtain ⟨v1, u2, hf⟩ := bdP hf
  refine cx_J2_118_J15_checkIndex E hX hD hP hS hA (kxJ15_checkIndex l D G hD u2) ⟨rfl, rfl⟩ ⟨Nat.le_of_ble_eq_true rfl, Nat.le_of_ble_eq_true rfl⟩ ⟨Nat.zero_le _, Nat.zero_le _⟩ hl.1 (Nat.le_of_ble_eq_true rfl) dJ2_get_5 (fun H locs hP hS => ?_)
  refine lv_pop hx hb dJ2_get_8 rfl ?_
  refine lv_aload_n hx hb dJ2_get_9 rfl (lv_at hl 0 rfl) ?_
  refine lv_iload_n hx hb dJ2_get_10 rfl (lv_at hl 1 rfl) ?_
  obtain ⟨v3, u4, hf⟩ := bdP hf
  refine cx_J2_123_J2_elementData_Ld E hX hD hP hS hA (kxJ2_elementData_Ld l D G hD rfl u4) ⟨rfl, rfl⟩ ⟨Nat.le_of_ble_eq_true rfl, Nat.le_of_ble_eq_true rfl⟩ ⟨Nat.zero_le _, Nat.zero_le _⟩ hl.1 (Nat.le_of_ble_eq_true rfl) dJ2_get_11 (fun H locs hP hS => ?_)
  cases hf
  rw [hQ]; exact g_aret hx hb hr hlk hP hS dJ2_get_14
theorem kxJ2_get_Ld (l : Launch) (D : va_G) (G : Nat → ClassId) {dsc : Nat → Option Dsc} {ad : Nat → Nat} {σ : Sto} {nr nw nu : Nat} (hD : XD dsc nr nw nu) {x1 : Int32} {r_ : Int32} {z_Ld_size : Int32} (e_zI2027 : σ.1 2027 = z_Ld_size) {a_Ld_data : Nat → Int32} (e_aI2036 : σ.2.2.1 2036 = a_Ld_data) (hf : xo_J2_get_Ld z_Ld_size a_Ld_data x1 = some r_) : CtG l D G dsc ad yJ2_get (ws_ yJ2_get cJ2_get 2 (Option.some (Jvm.ClassFile.FieldType.object "java/lang/Object"))) rmJ2_get_Ld [.ref (ad 2025), .int x1] σ (some (va_rf (drf ad 6000 r_))) σ := by
  subst e_zI2027
  subst e_aI2036
  exact p_ctG (by decide +kernel) (Nat.le_of_ble_eq_true rfl) (fun p e s m below meth c0 ls A E hP hX hA hS hl => wkJ2_get_Ld E hX hD hA hf rfl hP hS hl)
theorem gx_J2_48_2020 {v : Int32} (E : EN p s m args meth c0 RJ2 cc nL ret) (hX : KX D G ad A s s.heap) (hD : XD dsc nr nw nu) (hP : PIC D clsA G dsc ad σ H) (hv : σ.1 2022 = v) (hdg : decode cc pc = .ok (.getfield 48, 3)) (kk : W p l e R s m args below meth c0 H locs cells slots Q (F0 m (pc + 3) ls (.int v :: rest))) : W p l e R s m args below meth c0 H locs cells slots Q (F0 m pc ls (.ref (ad 2020) :: rest)) :=
  p_get E.1.1 E.1.2.1 E.1.2.2.2.2 in_J2 E.1.2.2.2.1 hX.1 hP (hD.1 _ _ dX_2020) rfl 2 (by decide) (E.1.2.2.2.2 _ q223) (fun _ h => h) rfl (congrArg Value.int hv) hdg kk
/-! J2_size_Lr ()I -/
abbrev rmJ2_size_Lr : Room := { frames := 0, cells := 0, slots := 0, locals := 0 }
set_option maxHeartbeats 4000000 in
theorem wkJ2_size_Lr {r_ : Int32} (E : EN p s m args meth c0 RJ2 cJ2_size 1 (Option.some Jvm.ClassFile.FieldType.int)) (hX : KX D G ad A s s.heap) (hD : XD dsc nr nw nu) (hA : ∀ q, PA dsc ad s.heap.size q → A q) (hf : xo_J2_size_Lr (σ.1 2022) = some r_) (hQ : Q = MQ below (va_G1 (some (.int r_)) (fun t => PIC D clsA G dsc ad σ t.heap) A) args s 0 0 A) (hP : PIC D clsA G dsc ad σ H) (hS : va_S A s.heap H locs) (hl : lv_has ls 1 [(0, .ref (ad 2020))]) : W p l e rmJ2_size_Lr s m args below meth c0 H locs 0 0 Q (F0 m 0 ls []) := by
  obtain ⟨⟨hx, hb, hml, hown, hts⟩, hr, hlk⟩ := id E
  unfold xo_J2_size_Lr at hf
  refine lv_aload_n hx hb dJ2_size_0 rfl (lv_at hl 0 rfl) ?_
  refine gx_J2_48_2020 (v := (σ.1 2022)) E hX hD hP rfl dJ2_size_1 ?_
  cases hf
  rw [hQ]; exact g_iret hx hb hr hlk hP hS dJ2_size_4
theorem kxJ2_size_Lr (l : Launch) (D : va_G) (G : Nat → ClassId) {dsc : Nat → Option Dsc} {ad : Nat → Nat} {σ : Sto} {nr nw nu : Nat} (hD : XD dsc nr nw nu) {r_ : Int32} {z_Lr_size : Int32} (e_zI2022 : σ.1 2022 = z_Lr_size) (hf : xo_J2_size_Lr z_Lr_size = some r_) : CtG l D G dsc ad yJ2_size (ws_ yJ2_size cJ2_size 1 (Option.some Jvm.ClassFile.FieldType.int)) rmJ2_size_Lr [.ref (ad 2020)] σ (some (.int r_)) σ := by
  subst e_zI2022
  exact p_ctG (by decide +kernel) (Nat.le_of_ble_eq_true rfl) (fun p e s m below meth c0 ls A E hP hX hA hS hl => wkJ2_size_Lr E hX hD hA hf rfl hP hS hl)
theorem gx_X12_19_1512 {v : Int32} (E : EN p s m args meth c0 RX12 cc nL ret) (hX : KX D G ad A s s.heap) (hD : XD dsc nr nw nu) (hP : PIC D clsA G dsc ad σ H) (hv : σ.1 1517 = v) (hdg : decode cc pc = .ok (.getfield 19, 3)) (kk : W p l e R s m args below meth c0 H locs cells slots Q (F0 m (pc + 3) ls (.int v :: rest))) : W p l e R s m args below meth c0 H locs cells slots Q (F0 m pc ls (.ref (ad 1512) :: rest)) :=
  p_get E.1.1 E.1.2.1 E.1.2.2.2.2 in_X12 E.1.2.2.2.1 hX.1 hP (hD.1 _ _ dX_1512) rfl 5 (by decide) (E.1.2.2.2.2 _ q429) (fun _ h => h) rfl (congrArg Value.int hv) hdg kk
theorem gx_X12_15_1512 (E : EN p s m args meth c0 RX12 cc nL ret) (hX : KX D G ad A s s.heap) (hD : XD dsc nr nw nu) (hP : PIC D clsA G dsc ad σ H) (hdg : decode cc pc = .ok (.getfield 15, 3)) (kk : W p l e R s m args below meth c0 H locs cells slots Q (F0 m (pc + 3) ls (.ref (ad 1165) :: rest))) : W p l e R s m args below meth c0 H locs cells slots Q (F0 m pc ls (.ref (ad 1512) :: rest)) :=
  p_get E.1.1 E.1.2.1 E.1.2.2.2.2 in_X12 E.1.2.2.2.1 hX.1 hP (hD.1 _ _ dX_1512) rfl 4 (by decide) (E.1.2.2.2.2 _ q427) (fun _ h => h) rfl rfl hdg kk
/-! X12_isOpen_p8 (II)Z -/
abbrev rmX12_isOpen_p8 : Room := { frames := 1, cells := 0, slots := 0, locals := 21 }
set_option maxHeartbeats 4000000 in
theorem wkX12_isOpen_p8 {x1 : Int32} {x2 : Int32} {r_ : Int32} (E : EN p s m args meth c0 RX12 cX12_isOpen 4 (Option.some Jvm.ClassFile.FieldType.boolean)) (hX : KX D G ad A s s.heap) (hD : XD dsc nr nw nu) (hA : ∀ q, PA dsc ad s.heap.size q → A q) (hf : xo_X12_isOpen_p5 (σ.1 1517) (σ.2.2.1 1165) (σ.2.2.1 1170) x1 x2 = some r_) (hQ : Q = MQ below (va_G1 (some (.int r_)) (fun t => PIC D clsA G dsc ad σ t.heap) A) args s 0 0 A) (hP : PIC D clsA G dsc ad σ H) (hS : va_S A s.heap H locs) (hl : lv_has ls 4 [(0, .ref (ad 1512)), (1, .int x1), (2, .int x2)]) : W p l e rmX12_isOpen_p8 s m args below meth c0 H locs 0 0 Q (F0 m 0 ls []) := by
  obtain ⟨⟨hx, hb, hml, hown, hts⟩, hr, hlk⟩ := id E
  unfold xo_X12_isOpen_p5 at hf
  refine lv_iconst hx hb dX12_isOpen_0 ic_0 ?_
  refine lv_istore_n (lv' := [(3, .int 0), (0, .ref (ad 1512)), (1, .int x1), (2, .int x2)]) hx hb dX12_isOpen_1 rfl hl (by decide) rfl (fun ls hl => ?_)
  have LP2 : ∀ (st2 : Int32) (ex2 : (Int32)), loop (xo_X12_isOpen_p5_L2 (σ.1 1517) (σ.2.2.1 1165) (σ.2.2.1 1170) x2) st2 = some ex2 → ∀ (H : Heap) (locs : List Loc), PIC D clsA G dsc ad σ H → va_S A s.heap H locs → ∀ (ls : Array Slot), lv_has ls 4 [(0, .ref (ad 1512)), (1, .int x1), (2, .int x2), (3, .int st2)] → (∀ (y8 : Int32), ex2 = y8 → ∀ (H : Heap) (locs : List Loc), PIC D clsA G dsc ad σ H → va_S A s.heap H locs → ∀ (ls : Array Slot), lv_has ls 4 [(0, .ref (ad 1512)), (1, .int x1), (3, .int y8)] → W p l e rmX12_isOpen_p8 s m args below meth c0 H locs 0 0 Q (F0 m 29 ls [])) → W p l e rmX12_isOpen_p8 s m args below meth c0 H locs 0 0 Q (F0 m 2 ls []) := by
    refine loop_P (fun st2 ex2 o2 hf ih2 hx2 => ?_)
    obtain ⟨y1, rfl⟩ : ∃ z, z = st2 := ⟨_, rfl⟩
    intro H locs (hP : PIC D clsA G dsc ad σ H) hS ls (hl : lv_has ls 4 [(0, .ref (ad 1512)), (1, .int x1), (2, .int x2), (3, .int y1)]) KE2_0
    dsimp only [xo_X12_isOpen_p5_L2] at hf
    refine lv_iload_n hx hb dX12_isOpen_2 rfl (lv_at hl 3 rfl) ?_
    refine lv_aload_n hx hb dX12_isOpen_3 rfl (lv_at hl 0 rfl) ?_
    refine gx_X12_19_1512 (v := (σ.1 1517)) E hX hD hP rfl dX12_isOpen_4 ?_
    refine lv_icmp_ge (tgt := 29) hx hb dX12_isOpen_7 (by decide) (fun c2 => ?_) (fun c2 => ?_)
    · have hf := ifT c2 hf
      exact KE2_0 _ (hx2 _ (Option.some.inj hf).symm).symm H locs hP hS ls (lv_sub hl [0, 1, 3] rfl)
    · have hf := ifF c2 hf
      refine lv_iload_n hx hb dX12_isOpen_10 rfl (lv_at hl 2 rfl) ?_
      refine lv_aload_n hx hb dX12_isOpen_11 rfl (lv_at hl 0 rfl) ?_
      refine gx_X12_15_1512 E hX hD hP dX12_isOpen_12 ?_
      refine lv_iload_n hx hb dX12_isOpen_15 rfl (lv_at hl 3 rfl) ?_
      obtain ⟨v3, hv3, hf⟩ := bdP hf
      refine p_iald hx hb hX.1 hP (hD.1 _ _ dX_1165) rfl hv3 dX12_isOpen_16 ?_
      obtain ⟨v4, u5, hf⟩ := bdP hf
      refine cx_X12_23_X1_digit E hX hD hP hS hA (kxX1_digit l D G hD rfl u5) ⟨rfl, rfl⟩ ⟨Nat.le_of_ble_eq_true rfl, Nat.le_of_ble_eq_true rfl⟩ ⟨Nat.zero_le _, Nat.zero_le _⟩ hl.1 (Nat.le_of_ble_eq_true rfl) dX12_isOpen_17 (fun H locs hP hS => ?_)
      refine lv_if_eq (tgt := 29) hx hb dX12_isOpen_20 (by decide) (fun c6 => ?_) (fun c6 => ?_)
      · have hf := ifT c6 hf
        exact KE2_0 _ (hx2 _ (Option.some.inj hf).symm).symm H locs hP hS ls (lv_sub hl [0, 1, 3] rfl)
      · have hf := ifF c6 hf
        obtain ⟨v7, hv7, hf⟩ := bdP hf
        refine lv_iinc (v := v7) (lv' := [(3, .int v7), (0, .ref (ad 1512)), (1, .int x1), (2, .int x2)]) hx hb dX12_isOpen_23 hl (k := 3) rfl (Option.some.inj hv7) (by decide) rfl (fun ls hl => ?_)
        refine lv_goto (tgt := 2) hx hb dX12_isOpen_26 (by decide) ?_
        exact ih2 _ (Option.some.inj hf).symm H locs hP hS ls (lv_sub hl [1, 2, 3, 0] rfl) KE2_0
  obtain ⟨ex2, hlp2, hf⟩ := bdP hf
  refine LP2 0 ex2 hlp2 H locs hP hS ls (lv_sub hl [1, 2, 3, 0] rfl) ?_
  intro y8 hex2 H locs hP hS ls hl
  subst ex2
  refine lv_iload_n hx hb dX12_isOpen_29 rfl (lv_at hl 2 rfl) ?_
  refine lv_aload_n hx hb dX12_isOpen_30 rfl (lv_at hl 0 rfl) ?_
  refine gx_X12_19_1512 (v := (σ.1 1517)) E hX hD hP rfl dX12_isOpen_31 ?_
  have J51 : xo_X12_isOpen_p5_J51 = some r_ → ∀ (H : Heap) (locs : List Loc), PIC D clsA G dsc ad σ H → va_S A s.heap H locs → ∀ (ls : Array Slot), lv_has ls 4 [] → W p l e rmX12_isOpen_p8 s m args below meth c0 H locs 0 0 Q (F0 m 51 ls []) := by
    intro  hf H locs hP hS ls hl
    unfold xo_X12_isOpen_p5_J51 at hf
    refine lv_iconst hx hb dX12_isOpen_51 ic_0 ?_
    cases hf
    rw [hQ]; exact g_nret hx hb hr hlk hP hS rfl dX12_isOpen_52
  refine lv_icmp_ge (tgt := 51) hx hb dX12_isOpen_34 (by decide) (fun c9 => ?_) (fun c9 => ?_)
  · have hf := ifT c9 hf
    exact J51  hf H locs hP hS ls (lv_sub hl [] rfl)
  · have hf := ifF c9 hf
    refine lv_aload_n hx hb dX12_isOpen_37 rfl (lv_at hl 0 rfl) ?_
    refine gx_X12_15_1512 E hX hD hP dX12_isOpen_38 ?_
    refine lv_iload_n hx hb dX12_isOpen_41 rfl (lv_at hl 2 rfl) ?_
    obtain ⟨v10, hv10, hf⟩ := bdP hf
    refine p_iald hx hb hX.1 hP (hD.1 _ _ dX_1165) rfl hv10 dX12_isOpen_42 ?_
    refine lv_iload_n hx hb dX12_isOpen_43 rfl (lv_at hl 1 rfl) ?_
    refine lv_icmp_ne (tgt := 51) hx hb dX12_isOpen_44 (by decide) (fun c11 => ?_) (fun c11 => ?_)
    · have hf := ifF c11 hf
      exact J51  hf H locs hP hS ls (lv_sub hl [] rfl)
    · have hf := ifT c11 hf
      refine lv_iconst hx hb dX12_isOpen_47 ic_1 ?_
      refine lv_goto (tgt := 52) hx hb dX12_isOpen_48 (by decide) ?_
      cases hf
      rw [hQ]; exact g_nret hx hb hr hlk hP hS rfl dX12_isOpen_52
theorem kxX12_isOpen_p8 (l : Launch) (D : va_G) (G : Nat → ClassId) {dsc : Nat → Option Dsc} {ad : Nat → Nat} {σ : Sto} {nr nw nu : Nat} (hD : XD dsc nr nw nu) {x1 : Int32} {x2 : Int32} {r_ : Int32} {z_p8_many : Int32} (e_zI1517 : σ.1 1517 = z_p8_many) {a_p8_row : Nat → Int32} (e_aI1165 : σ.2.2.1 1165 = a_p8_row) {a_UNIT : Nat → Int32} (e_aI1170 : σ.2.2.1 1170 = a_UNIT) (hf : xo_X12_isOpen_p5 z_p8_many a_p8_row a_UNIT x1 x2 = some r_) : CtG l D G dsc ad yX12_isOpen (ws_ yX12_isOpen cX12_isOpen 4 (Option.some Jvm.ClassFile.FieldType.boolean)) rmX12_isOpen_p8 [.ref (ad 1512), .int x1, .int x2] σ (some (.int r_)) σ := by
  subst e_zI1517
  subst e_aI1165
  subst e_aI1170
  exact p_ctG (by decide +kernel) (Nat.le_of_ble_eq_true rfl) (fun p e s m below meth c0 ls A E hP hX hA hS hl => wkX12_isOpen_p8 E hX hD hA hf rfl hP hS hl)
theorem gx_X10_3_1512 (E : EN p s m args meth c0 RX10 cc nL ret) (hX : KX D G ad A s s.heap) (hD : XD dsc nr nw nu) (hP : PIC D clsA G dsc ad σ H) (hdg : decode cc pc = .ok (.getfield 3, 3)) (kk : W p l e R s m args below meth c0 H locs cells slots Q (F0 m (pc + 3) ls (.ref (ad 1000) :: rest))) : W p l e R s m args below meth c0 H locs cells slots Q (F0 m pc ls (.ref (ad 1512) :: rest)) :=
  p_get E.1.1 E.1.2.1 E.1.2.2.2.2 in_X12 E.1.2.2.2.1 hX.1 hP (hD.1 _ _ dX_1512) rfl 1 (by decide) (E.1.2.2.2.2 _ q434) (fun _ h => h) rfl rfl hdg kk
theorem cx_X10_43_X12_isOpen_p8 {rm : Room} {σ1 : Sto} {x1 : Int32} {x2 : Int32} {r : Int32} (E : EN p s m args meth c0 RX10 cc nL ret) (hX : KX D G ad A s s.heap) (hD : XD dsc nr nw nu) (hP : PIC D clsA G dsc ad σ H) (hS : va_S A s.heap H locs) (hA : ∀ q, PA dsc ad s.heap.size q → A q) (hM : CtG l D G dsc ad yX12_isOpen (ws_ yX12_isOpen cX12_isOpen 4 (Option.some Jvm.ClassFile.FieldType.boolean)) rm [.ref (ad 1512), .int x1, .int x2] σ (some (.int r)) σ1) (hz : rm.cells = 0 ∧ rm.slots = 0) (hR : rm.frames + 1 ≤ R.frames ∧ 8 + (4 + 11) + rm.locals ≤ R.locals) (hcs : cells ≤ R.cells ∧ slots ≤ R.slots) (hsz : ls.size = nL) (hW : (rest.map fun v => v.category).sum ≤ 8) (hdg : decode cc pc = .ok (.invokevirtual 43, 3)) (kk : ∀ (H1 : Heap) (locs1 : List Loc), PIC D clsA G dsc ad σ1 H1 → va_S A s.heap H1 locs1 → W p l e R s m args below meth c0 H1 locs1 cells slots Q (F0 m (pc + 3) ls (.int r :: rest))) : W p l e R s m args below meth c0 H locs cells slots Q (F0 m pc ls (.int x2 :: .int x1 :: .ref (ad 1512) :: rest)) :=
  p_gU (As := [.int x1, .int x2]) (rest := rest) E.1 hX hP hS hA hM (cw_any (owner := "ShutPasses$AsIf") (x := ⟨"ShutPasses$AsIf", "isOpen", "(II)Z"⟩) (y := yX12_isOpen) (C := "ShutPasses$Tries") (index := 43) (own := RX10) 2 E.1.2.2.2.2 (lw_meth q1224) rfl hz.1 hz.2 (E.1.2.2.2.2 _ q1213) (E.1.2.2.2.2 _ q1215) (va_Decl.abs (hX.2.1.1 _ q1214 rfl)) (E.1.2.2.2.2 _ q1222) (E.1.2.2.2.2 _ q1223) (E.1.2.2.2.2 _ q138) (by decide +kernel) hR) (hD.1 _ _ dX_1512) rfl rfl rfl hsz rfl hW hdg hcs kk
/-! X10_cost_p8 (III)I -/
abbrev rmX10_cost_p8 : Room := { frames := 2, cells := 0, slots := 0, locals := 46 }
set_option maxHeartbeats 4000000 in
theorem wkX10_cost_p8 {x1 : Int32} {x2 : Int32} {x3 : Int32} {r_ : Int32} (E : EN p s m args meth c0 RX10 cX10_cost 5 (Option.some Jvm.ClassFile.FieldType.int)) (hX : KX D G ad A s s.heap) (hD : XD dsc nr nw nu) (hA : ∀ q, PA dsc ad s.heap.size q → A q) (hf : xo_X10_cost_p5 (σ.1 1517) (σ.2.2.1 1165) (σ.2.2.1 1170) nr (fun k => σ.1 (6000 + 16 * k + 2)) (fun k => σ.1 (6000 + 16 * k + 5)) (fun k => σ.1 (6000 + 16 * k + 6)) (fun k => σ.2.2.1 (4000 + 16 * k)) x1 x2 x3 = some r_) (hQ : Q = MQ below (va_G1 (some (.int r_)) (fun t => PIC D clsA G dsc ad σ t.heap) A) args s 0 0 A) (hP : PIC D clsA G dsc ad σ H) (hS : va_S A s.heap H locs) (hl : lv_has ls 5 [(0, .ref (ad 1512)), (1, .int x1), (2, .int x2), (3, .int x3)]) : W p l e rmX10_cost_p8 s m args below meth c0 H locs 0 0 Q (F0 m 0 ls []) := by
  obtain ⟨⟨hx, hb, hml, hown, hts⟩, hr, hlk⟩ := id E
  unfold xo_X10_cost_p5 at hf
  refine lv_aload_n hx hb dX10_cost_0 rfl (lv_at hl 0 rfl) ?_
  refine gx_X10_3_1512 E hX hD hP dX10_cost_1 ?_
  refine gx_X10_19_1000 E hX hD hP dX10_cost_4 ?_
  refine lv_iload_n hx hb dX10_cost_7 rfl (lv_at hl 1 rfl) ?_
  refine lv_iload_n hx hb dX10_cost_8 rfl (lv_at hl 2 rfl) ?_
  obtain ⟨v1, u2, hf⟩ := bdP hf
  refine cx_X10_23_X3_between E hX hD hP hS hA (kxX3_between l D G hD rfl u2) ⟨rfl, rfl⟩ ⟨Nat.le_of_ble_eq_true rfl, Nat.le_of_ble_eq_true rfl⟩ ⟨Nat.zero_le _, Nat.zero_le _⟩ hl.1 (Nat.le_of_ble_eq_true rfl) dX10_cost_9 (fun H locs hP hS => ?_)
  refine r_astore (lv' := [(4, va_rf (drf ad 6000 v1)), (0, .ref (ad 1512)), (1, .int x1), (2, .int x2), (3, .int x3)]) hx hb dX10_cost_12 hl (by decide) rfl (fun ls hl => ?_)
  refine r_aload hx hb dX10_cost_14 (lv_at hl 0 rfl) ?_
  have J40 : xo_X10_cost_p5_J40 (σ.2.2.1 1170) nr (fun k => σ.1 (6000 + 16 * k + 2)) (fun k => σ.1 (6000 + 16 * k + 5)) (fun k => σ.1 (6000 + 16 * k + 6)) (fun k => σ.2.2.1 (4000 + 16 * k)) x1 x2 x3 = some r_ → ∀ (H : Heap) (locs : List Loc), PIC D clsA G dsc ad σ H → va_S A s.heap H locs → ∀ (ls : Array Slot), lv_has ls 5 [(0, .ref (ad 1512)), (1, .int x1), (2, .int x2), (3, .int x3)] → W p l e rmX10_cost_p8 s m args below meth c0 H locs 0 0 Q (F0 m 40 ls []) := by
    intro  hf H locs hP hS ls hl
    unfold xo_X10_cost_p5_J40 at hf
    refine lv_aload_n hx hb dX10_cost_40 rfl (lv_at hl 0 rfl) ?_
    refine gx_X10_3_1512 E hX hD hP dX10_cost_41 ?_
    refine gx_X10_19_1000 E hX hD hP dX10_cost_44 ?_
    refine lv_iload_n hx hb dX10_cost_47 rfl (lv_at hl 1 rfl) ?_
    refine lv_iload_n hx hb dX10_cost_48 rfl (lv_at hl 2 rfl) ?_
    refine lv_iload_n hx hb dX10_cost_49 rfl (lv_at hl 3 rfl) ?_
    obtain ⟨v3, u4, hf⟩ := bdP hf
    refine cx_X10_39_X3_cost E hX hD hP hS hA (kxX3_cost l D G hD rfl rfl rfl rfl rfl rfl u4) ⟨rfl, rfl⟩ ⟨Nat.le_of_ble_eq_true rfl, Nat.le_of_ble_eq_true rfl⟩ ⟨Nat.zero_le _, Nat.zero_le _⟩ hl.1 (Nat.le_of_ble_eq_true rfl) dX10_cost_50 (fun H locs hP hS => ?_)
    cases hf
    rw [hQ]; exact g_iret hx hb hr hlk hP hS dX10_cost_53
  refine r_ifnull (tgt := 40) hx hb dX10_cost_16 (by decide) (fun c5 => ?_) (fun c5 => ?_)
  · have hf := ifT c5 hf
    exact J40  hf H locs hP hS ls (lv_sub hl [1, 2, 3, 4] rfl)
  · have hf := ifF c5 hf
    refine r_aload hx hb dX10_cost_19 (lv_at hl 0 rfl) ?_
    obtain ⟨v6, hv6, hf⟩ := bdP hf
    refine gp_X10_29_R E hX hD hP rfl hv6 dX10_cost_21 ?_
    refine lv_iconst hx hb dX10_cost_24 ic_m1 ?_
    refine lv_icmp_eq (tgt := 40) hx hb dX10_cost_25 (by decide) (fun c7 => ?_) (fun c7 => ?_)
    · have hf := ifT c7 hf
      exact J40  hf H locs hP hS ls (lv_sub hl [1, 2, 3, 4] rfl)
    · have hf := ifF c7 hf
      refine lv_iload_n hx hb dX10_cost_28 rfl (lv_at hl 4 rfl) ?_
      refine r_aload hx hb dX10_cost_29 (lv_at hl 0 rfl) ?_
      obtain ⟨v8, hv8, hf⟩ := bdP hf
      refine gp_X10_29_R E hX hD hP rfl hv8 dX10_cost_31 ?_
      obtain ⟨v9, u10, hf⟩ := bdP hf
      refine cx_X10_35_X1_digit E hX hD hP hS hA (kxX1_digit l D G hD rfl u10) ⟨rfl, rfl⟩ ⟨Nat.le_of_ble_eq_true rfl, Nat.le_of_ble_eq_true rfl⟩ ⟨Nat.zero_le _, Nat.zero_le _⟩ hl.1 (Nat.le_of_ble_eq_true rfl) dX10_cost_34 (fun H locs hP hS => ?_)
      refine lv_if_eq (tgt := 54) hx hb dX10_cost_37 (by decide) (fun c11 => ?_) (fun c11 => ?_)
      · have hf := ifT c11 hf
        refine lv_aload_n hx hb dX10_cost_54 rfl (lv_at hl 1 rfl) ?_
        refine r_aload hx hb dX10_cost_55 (lv_at hl 0 rfl) ?_
        obtain ⟨v12, hv12, hf⟩ := bdP hf
        refine gp_X10_29_R E hX hD hP rfl hv12 dX10_cost_57 ?_
        refine lv_iload_n hx hb dX10_cost_60 rfl (lv_at hl 4 rfl) ?_
        obtain ⟨v13, u14, hf⟩ := bdP hf
        refine cx_X10_43_X12_isOpen_p8 E hX hD hP hS hA (kxX12_isOpen_p8 l D G hD rfl rfl rfl u14) ⟨rfl, rfl⟩ ⟨Nat.le_of_ble_eq_true rfl, Nat.le_of_ble_eq_true rfl⟩ ⟨Nat.zero_le _, Nat.zero_le _⟩ hl.1 (Nat.le_of_ble_eq_true rfl) dX10_cost_61 (fun H locs hP hS => ?_)
        refine lv_if_eq (tgt := 75) hx hb dX10_cost_64 (by decide) (fun c15 => ?_) (fun c15 => ?_)
        · have hf := ifT c15 hf
          refine r_aload hx hb dX10_cost_75 (lv_at hl 0 rfl) ?_
          obtain ⟨v16, hv16, hf⟩ := bdP hf
          refine gp_X10_50_R E hX hD hP rfl hv16 dX10_cost_77 ?_
          refine lv_if_le (tgt := 97) hx hb dX10_cost_80 (by decide) (fun c17 => ?_) (fun c17 => ?_)
          · have hf := ifT c17 hf
            refine lv_ldc hx hb hown (hts _ q1205) dX10_cost_97 ?_
            cases hf
            rw [hQ]; exact g_iret hx hb hr hlk hP hS dX10_cost_99
          · have hf := ifF c17 hf
            refine r_aload hx hb dX10_cost_83 (lv_at hl 0 rfl) ?_
            obtain ⟨v18, hv18, hf⟩ := bdP hf
            refine gp_X10_47_R E hX hD hP rfl hv18 dX10_cost_85 ?_
            refine r_aload hx hb dX10_cost_88 (lv_at hl 0 rfl) ?_
            obtain ⟨v19, hv19, hf⟩ := bdP hf
            refine gp_X10_50_R E hX hD hP rfl hv19 dX10_cost_90 ?_
            refine lv_iadd hx hb dX10_cost_93 ?_
            refine lv_goto (tgt := 99) hx hb dX10_cost_94 (by decide) ?_
            cases hf
            rw [hQ]; exact g_iret hx hb hr hlk hP hS dX10_cost_99
        · have hf := ifF c15 hf
          refine r_aload hx hb dX10_cost_67 (lv_at hl 0 rfl) ?_
          obtain ⟨v20, hv20, hf⟩ := bdP hf
          refine gp_X10_47_R E hX hD hP rfl hv20 dX10_cost_69 ?_
          refine lv_goto (tgt := 99) hx hb dX10_cost_72 (by decide) ?_
          cases hf
          rw [hQ]; exact g_iret hx hb hr hlk hP hS dX10_cost_99
      · have hf := ifF c11 hf
        exact J40  hf H locs hP hS ls (lv_sub hl [1, 2, 3, 4] rfl)
theorem kxX10_cost_p8 (l : Launch) (D : va_G) (G : Nat → ClassId) {dsc : Nat → Option Dsc} {ad : Nat → Nat} {σ : Sto} {nr nw nu : Nat} (hD : XD dsc nr nw nu) {x1 : Int32} {x2 : Int32} {x3 : Int32} {r_ : Int32} {z_p8_many : Int32} (e_zI1517 : σ.1 1517 = z_p8_many) {a_p8_row : Nat → Int32} (e_aI1165 : σ.2.2.1 1165 = a_p8_row) {a_UNIT : Nat → Int32} (e_aI1170 : σ.2.2.1 1170 = a_UNIT) {n_r : Nat} (e_nN0 : nr = n_r) {p_road_hours : Nat → Int32} (e_pR2 : (fun k => σ.1 (6000 + 16 * k + 2)) = p_road_hours) {p_road_wait : Nat → Int32} (e_pR5 : (fun k => σ.1 (6000 + 16 * k + 5)) = p_road_wait) {p_road_number : Nat → Int32} (e_pR6 : (fun k => σ.1 (6000 + 16 * k + 6)) = p_road_number) {g_grid : Nat → Nat → Int32} (e_gG0 : (fun k => σ.2.2.1 (4000 + 16 * k)) = g_grid) (hf : xo_X10_cost_p5 z_p8_many a_p8_row a_UNIT n_r p_road_hours p_road_wait p_road_number g_grid x1 x2 x3 = some r_) : CtG l D G dsc ad yX10_cost (ws_ yX10_cost cX10_cost 5 (Option.some Jvm.ClassFile.FieldType.int)) rmX10_cost_p8 [.ref (ad 1512), .int x1, .int x2, .int x3] σ (some (.int r_)) σ := by
  subst e_zI1517
  subst e_aI1165
  subst e_aI1170
  subst e_nN0
  subst e_pR2
  subst e_pR5
  subst e_pR6
  subst e_gG0
  exact p_ctG (by decide +kernel) (Nat.le_of_ble_eq_true rfl) (fun p e s m below meth c0 ls A E hP hX hA hS hl => wkX10_cost_p8 E hX hD hA hf rfl hP hS hl)
theorem gx_X10_15_1512 (E : EN p s m args meth c0 RX10 cc nL ret) (hX : KX D G ad A s s.heap) (hD : XD dsc nr nw nu) (hP : PIC D clsA G dsc ad σ H) (hdg : decode cc pc = .ok (.getfield 15, 3)) (kk : W p l e R s m args below meth c0 H locs cells slots Q (F0 m (pc + 3) ls (.ref (ad 1161) :: rest))) : W p l e R s m args below meth c0 H locs cells slots Q (F0 m pc ls (.ref (ad 1512) :: rest)) :=
  p_get E.1.1 E.1.2.1 E.1.2.2.2.2 in_X12 E.1.2.2.2.1 hX.1 hP (hD.1 _ _ dX_1512) rfl 0 (by decide) (E.1.2.2.2.2 _ q433) (fun _ h => h) rfl rfl hdg kk
theorem cx_X10_60_X10_cost_p8 {rm : Room} {σ1 : Sto} {x1 : Int32} {x2 : Int32} {x3 : Int32} {r : Int32} (E : EN p s m args meth c0 RX10 cc nL ret) (hX : KX D G ad A s s.heap) (hD : XD dsc nr nw nu) (hP : PIC D clsA G dsc ad σ H) (hS : va_S A s.heap H locs) (hA : ∀ q, PA dsc ad s.heap.size q → A q) (hM : CtG l D G dsc ad yX10_cost (ws_ yX10_cost cX10_cost 5 (Option.some Jvm.ClassFile.FieldType.int)) rm [.ref (ad 1512), .int x1, .int x2, .int x3] σ (some (.int r)) σ1) (hz : rm.cells = 0 ∧ rm.slots = 0) (hR : rm.frames + 1 ≤ R.frames ∧ 8 + (5 + 11) + rm.locals ≤ R.locals) (hcs : cells ≤ R.cells ∧ slots ≤ R.slots) (hsz : ls.size = nL) (hW : (rest.map fun v => v.category).sum ≤ 8) (hdg : decode cc pc = .ok (.invokevirtual 60, 3)) (kk : ∀ (H1 : Heap) (locs1 : List Loc), PIC D clsA G dsc ad σ1 H1 → va_S A s.heap H1 locs1 → W p l e R s m args below meth c0 H1 locs1 cells slots Q (F0 m (pc + 3) ls (.int r :: rest))) : W p l e R s m args below meth c0 H locs cells slots Q (F0 m pc ls (.int x3 :: .int x2 :: .int x1 :: .ref (ad 1512) :: rest)) :=
  p_gU (As := [.int x1, .int x2, .int x3]) (rest := rest) E.1 hX hP hS hA hM (cw_any (owner := "ShutPasses$AsIf") (x := ⟨"ShutPasses$AsIf", "cost", "(III)I"⟩) (y := yX10_cost) (C := "ShutPasses$Tries") (index := 60) (own := RX10) 3 E.1.2.2.2.2 (lw_meth q1209) rfl hz.1 hz.2 (E.1.2.2.2.2 _ q1206) (E.1.2.2.2.2 _ q2283) (va_Decl.of (E.1.2.2.2.2 _ q1208) (E.1.2.2.2.2 _ q1209)) (va_Nw.use rfl (hX.2.1.2 ("ShutPasses$Tries", yX10_cost) (by decide +kernel))) (E.1.2.2.2.2 _ q1208) (E.1.2.2.2.2 _ q136) (by decide +kernel) hR) (hD.1 _ _ dX_1512) rfl rfl rfl hsz rfl hW hdg hcs kk
/-! X10_next_p8 (II)I -/
def sgX10_next_p8 (σ : Sto) (w0 : Nat → Int32) : Sto := aI σ 1161 w0
theorem sgX10_next_p8_self (σ : Sto) : sgX10_next_p8 σ (σ.2.2.1 1161) = σ := by
  unfold sgX10_next_p8
  simp only [zI_self, zL_self, aI_self, aL_self]
theorem sgX10_next_p8_aI1161 {σ : Sto} {w0 : Nat → Int32} {g : Nat → Int32} : aI (sgX10_next_p8 σ w0) 1161 g = sgX10_next_p8 σ g := aI_aI _ 1161 _ _
theorem sgX10_next_p8_rzI1517 {σ : Sto} {w0 : Nat → Int32} : (sgX10_next_p8 σ w0).1 1517 = σ.1 1517 := rfl
theorem sgX10_next_p8_rzI2008 {σ : Sto} {w0 : Nat → Int32} : (sgX10_next_p8 σ w0).1 2008 = σ.1 2008 := rfl
theorem sgX10_next_p8_rzI2013 {σ : Sto} {w0 : Nat → Int32} : (sgX10_next_p8 σ w0).1 2013 = σ.1 2013 := rfl
theorem sgX10_next_p8_raI1161 {σ : Sto} {w0 : Nat → Int32} : (sgX10_next_p8 σ w0).2.2.1 1161 = w0 := rfl
theorem sgX10_next_p8_raI1165 {σ : Sto} {w0 : Nat → Int32} : (sgX10_next_p8 σ w0).2.2.1 1165 = σ.2.2.1 1165 := rfl
theorem sgX10_next_p8_raI1170 {σ : Sto} {w0 : Nat → Int32} : (sgX10_next_p8 σ w0).2.2.1 1170 = σ.2.2.1 1170 := rfl
theorem sgX10_next_p8_rpR2 {σ : Sto} {w0 : Nat → Int32} : (fun k => (sgX10_next_p8 σ w0).1 (6000 + 16 * k + 2)) = (fun k => σ.1 (6000 + 16 * k + 2)) := by
  funext k
  unfold sgX10_next_p8
  dsimp only [zI, zL, aI, aL]
  repeat rw [if_neg (by omega)]
theorem sgX10_next_p8_rpR5 {σ : Sto} {w0 : Nat → Int32} : (fun k => (sgX10_next_p8 σ w0).1 (6000 + 16 * k + 5)) = (fun k => σ.1 (6000 + 16 * k + 5)) := by
  funext k
  unfold sgX10_next_p8
  dsimp only [zI, zL, aI, aL]
  repeat rw [if_neg (by omega)]
theorem sgX10_next_p8_rpR6 {σ : Sto} {w0 : Nat → Int32} : (fun k => (sgX10_next_p8 σ w0).1 (6000 + 16 * k + 6)) = (fun k => σ.1 (6000 + 16 * k + 6)) := by
  funext k
  unfold sgX10_next_p8
  dsimp only [zI, zL, aI, aL]
  repeat rw [if_neg (by omega)]
theorem sgX10_next_p8_rgG0 {σ : Sto} {w0 : Nat → Int32} : (fun k => (sgX10_next_p8 σ w0).2.2.1 (4000 + 16 * k)) = (fun k => σ.2.2.1 (4000 + 16 * k)) := by
  funext k
  unfold sgX10_next_p8
  dsimp only [zI, zL, aI, aL]
  repeat rw [if_neg (by omega)]
abbrev rmX10_next_p8 : Room := { frames := 3, cells := 0, slots := 0, locals := 70 }
set_option maxHeartbeats 4000000 in
theorem wkX10_next_p8 {x1 : Int32} {x2 : Int32} {r_ : Int32} {w_aI1161 : Nat → Int32} (E : EN p s m args meth c0 RX10 cX10_next 7 (Option.some Jvm.ClassFile.FieldType.int)) (hX : KX D G ad A s s.heap) (hD : XD dsc nr nw nu) (hA : ∀ q, PA dsc ad s.heap.size q → A q) (hf : xo_X10_next_p5 (σ.1 1517) (σ.1 2008) (σ.1 2013) (σ.2.2.1 1161) (σ.2.2.1 1165) (σ.2.2.1 1170) nr (fun k => σ.1 (6000 + 16 * k + 2)) (fun k => σ.1 (6000 + 16 * k + 5)) (fun k => σ.1 (6000 + 16 * k + 6)) (fun k => σ.2.2.1 (4000 + 16 * k)) x1 x2 = some (r_, w_aI1161)) (hQ : Q = MQ below (va_G1 (some (.int r_)) (fun t => PIC D clsA G dsc ad (sgX10_next_p8 σ w_aI1161) t.heap) A) args s 0 0 A) (hP : PIC D clsA G dsc ad σ H) (hS : va_S A s.heap H locs) (hl : lv_has ls 7 [(0, .ref (ad 1512)), (1, .int x1), (2, .int x2)]) : W p l e rmX10_next_p8 s m args below meth c0 H locs 0 0 Q (F0 m 0 ls []) := by
  obtain ⟨⟨hx, hb, hml, hown, hts⟩, hr, hlk⟩ := id E
  have hP := hP.to (sgX10_next_p8_self σ).symm
  unfold xo_X10_next_p5 at hf
  refine lv_iload_n hx hb dX10_next_0 rfl (lv_at hl 1 rfl) ?_
  refine lv_aload_n hx hb dX10_next_1 rfl (lv_at hl 0 rfl) ?_
  refine gx_X10_3_1512 E hX hD hP dX10_next_2 ?_
  refine gx_X10_19_1000 E hX hD hP dX10_next_5 ?_
  refine gx_X10_54_2000 (v := (σ.1 2013)) E hX hD hP sgX10_next_p8_rzI2013 dX10_next_8 ?_
  refine lv_icmp_ne (tgt := 17) hx hb dX10_next_11 (by decide) (fun c1 => ?_) (fun c1 => ?_)
  · have hf := ifF c1 hf
    refine lv_iconst hx hb dX10_next_17 ic_0 ?_
    refine lv_istore_n (lv' := [(3, .int 0), (0, .ref (ad 1512)), (1, .int x1), (2, .int x2)]) hx hb dX10_next_18 rfl hl (by decide) rfl (fun ls hl => ?_)
    have LP19 : ∀ (st19 : Int32 × (Nat → Int32)) (ex19 : ((Nat → Int32))), loop (xo_X10_next_p5_L19 (σ.1 2008) (σ.1 2013)) st19 = some ex19 → ∀ (H : Heap) (locs : List Loc), PIC D clsA G dsc ad (sgX10_next_p8 σ (st19.2)) H → va_S A s.heap H locs → ∀ (ls : Array Slot), lv_has ls 7 [(0, .ref (ad 1512)), (1, .int x1), (2, .int x2), (3, .int (st19.1))] → (∀ (a10 : Nat → Int32), ex19 = a10 → ∀ (H : Heap) (locs : List Loc), PIC D clsA G dsc ad (sgX10_next_p8 σ a10) H → va_S A s.heap H locs → ∀ (ls : Array Slot), lv_has ls 7 [(0, .ref (ad 1512)), (1, .int x1), (2, .int x2)] → W p l e rmX10_next_p8 s m args below meth c0 H locs 0 0 Q (F0 m 65 ls [])) → W p l e rmX10_next_p8 s m args below meth c0 H locs 0 0 Q (F0 m 19 ls []) := by
      refine loop_P (fun st19 ex19 o19 hf ih19 hx19 => ?_)
      obtain ⟨y2, a3⟩ := st19
      intro H locs (hP : PIC D clsA G dsc ad (sgX10_next_p8 σ a3) H) hS ls (hl : lv_has ls 7 [(0, .ref (ad 1512)), (1, .int x1), (2, .int x2), (3, .int y2)]) KE19_0
      dsimp only [xo_X10_next_p5_L19] at hf
      refine lv_iload_n hx hb dX10_next_19 rfl (lv_at hl 3 rfl) ?_
      refine lv_aload_n hx hb dX10_next_20 rfl (lv_at hl 0 rfl) ?_
      refine gx_X10_3_1512 E hX hD hP dX10_next_21 ?_
      refine gx_X10_19_1000 E hX hD hP dX10_next_24 ?_
      refine gx_X10_57_2000 (v := (σ.1 2008)) E hX hD hP sgX10_next_p8_rzI2008 dX10_next_27 ?_
      refine lv_icmp_ge (tgt := 65) hx hb dX10_next_30 (by decide) (fun c4 => ?_) (fun c4 => ?_)
      · have hf := ifT c4 hf
        exact KE19_0 _ (hx19 _ (Option.some.inj hf).symm).symm H locs hP hS ls (lv_sub hl [0, 1, 2] rfl)
      · have hf := ifF c4 hf
        refine lv_aload_n hx hb dX10_next_33 rfl (lv_at hl 0 rfl) ?_
        refine gx_X10_15_1512 E hX hD hP dX10_next_34 ?_
        refine lv_iload_n hx hb dX10_next_37 rfl (lv_at hl 3 rfl) ?_
        refine lv_iload_n hx hb dX10_next_38 rfl (lv_at hl 3 rfl) ?_
        refine lv_aload_n hx hb dX10_next_39 rfl (lv_at hl 0 rfl) ?_
        refine gx_X10_3_1512 E hX hD hP dX10_next_40 ?_
        refine gx_X10_19_1000 E hX hD hP dX10_next_43 ?_
        refine gx_X10_54_2000 (v := (σ.1 2013)) E hX hD hP sgX10_next_p8_rzI2013 dX10_next_46 ?_
        have J58 : ∀ (k5 : Int32) (k6 : Int32), xo_X10_next_p5_J58 y2 a3 k5 k6 = some o19 → ∀ (H : Heap) (locs : List Loc), PIC D clsA G dsc ad (sgX10_next_p8 σ a3) H → va_S A s.heap H locs → ∀ (ls : Array Slot), lv_has ls 7 [(0, .ref (ad 1512)), (1, .int x1), (2, .int x2), (3, .int y2)] → W p l e rmX10_next_p8 s m args below meth c0 H locs 0 0 Q (F0 m 58 ls [.int k5, .int k6, .ref (ad 1161)]) := by
          intro k5 k6 hf H locs hP hS ls hl
          unfold xo_X10_next_p5_J58 at hf
          obtain ⟨a7, ha7, hf⟩ := bdP hf
          refine p_iast hx hb hX.1 hP hS (hA _ (PA_c (hD.1 _ _ dX_1161))) (hD.1 _ _ dX_1161) sgX10_next_p8_raI1161 ha7 sgX10_next_p8_aI1161 dX10_next_58 (fun H locs hP hS => ?_)
          obtain ⟨v8, hv8, hf⟩ := bdP hf
          refine lv_iinc (v := v8) (lv' := [(3, .int v8), (0, .ref (ad 1512)), (1, .int x1), (2, .int x2)]) hx hb dX10_next_59 hl (k := 3) rfl (Option.some.inj hv8) (by decide) rfl (fun ls hl => ?_)
          refine lv_goto (tgt := 19) hx hb dX10_next_62 (by decide) ?_
          exact ih19 _ (Option.some.inj hf).symm H locs hP hS ls (lv_sub hl [1, 2, 3, 0] rfl) KE19_0
        refine lv_icmp_ne (tgt := 56) hx hb dX10_next_49 (by decide) (fun c9 => ?_) (fun c9 => ?_)
        · have hf := ifF c9 hf
          refine lv_ldc hx hb hown (hts _ q1205) dX10_next_56 ?_
          exact J58 1000000 y2 hf H locs hP hS ls (lv_sub hl [0, 1, 2, 3] rfl)
        · have hf := ifT c9 hf
          refine lv_iconst hx hb dX10_next_52 ic_0 ?_
          refine lv_goto (tgt := 58) hx hb dX10_next_53 (by decide) ?_
          exact J58 0 y2 hf H locs hP hS ls (lv_sub hl [0, 1, 2, 3] rfl)
    obtain ⟨ex19, hlp19, hf⟩ := bdP hf
    refine LP19 (0, (σ.2.2.1 1161)) ex19 hlp19 H locs hP hS ls (lv_sub hl [1, 2, 3, 0] rfl) ?_
    intro a10 hex19 H locs hP hS ls hl
    subst ex19
    refine lv_iconst hx hb dX10_next_65 ic_1 ?_
    refine lv_istore_n (lv' := [(3, .int 1), (0, .ref (ad 1512)), (1, .int x1), (2, .int x2)]) hx hb dX10_next_66 rfl hl (by decide) rfl (fun ls hl => ?_)
    have LP67 : ∀ (st67 : Int32 × (Nat → Int32)) (ex67 : ((Nat → Int32))), loop (xo_X10_next_p5_L67 (σ.1 1517) (σ.1 2008) (σ.2.2.1 1165) (σ.2.2.1 1170) nr (fun k => σ.1 (6000 + 16 * k + 2)) (fun k => σ.1 (6000 + 16 * k + 5)) (fun k => σ.1 (6000 + 16 * k + 6)) (fun k => σ.2.2.1 (4000 + 16 * k)) x2) st67 = some ex67 → ∀ (H : Heap) (locs : List Loc), PIC D clsA G dsc ad (sgX10_next_p8 σ (st67.2)) H → va_S A s.heap H locs → ∀ (ls : Array Slot), lv_has ls 7 [(0, .ref (ad 1512)), (1, .int x1), (2, .int x2), (3, .int (st67.1))] → (∀ (a41 : Nat → Int32), ex67 = a41 → ∀ (H : Heap) (locs : List Loc), PIC D clsA G dsc ad (sgX10_next_p8 σ a41) H → va_S A s.heap H locs → ∀ (ls : Array Slot), lv_has ls 7 [(0, .ref (ad 1512)), (1, .int x1), (2, .int x2)] → W p l e rmX10_next_p8 s m args below meth c0 H locs 0 0 Q (F0 m 201 ls [])) → W p l e rmX10_next_p8 s m args below meth c0 H locs 0 0 Q (F0 m 67 ls []) := by
      refine loop_P (fun st67 ex67 o67 hf ih67 hx67 => ?_)
      obtain ⟨y11, a12⟩ := st67
      intro H locs (hP : PIC D clsA G dsc ad (sgX10_next_p8 σ a12) H) hS ls (hl : lv_has ls 7 [(0, .ref (ad 1512)), (1, .int x1), (2, .int x2), (3, .int y11)]) KE67_0
      dsimp only [xo_X10_next_p5_L67] at hf
      refine lv_iload_n hx hb dX10_next_67 rfl (lv_at hl 3 rfl) ?_
      refine lv_if_eq (tgt := 201) hx hb dX10_next_68 (by decide) (fun c13 => ?_) (fun c13 => ?_)
      · have hf := ifT c13 hf
        exact KE67_0 _ (hx67 _ (Option.some.inj hf).symm).symm H locs hP hS ls (lv_sub hl [0, 1, 2] rfl)
      · have hf := ifF c13 hf
        refine lv_iconst hx hb dX10_next_71 ic_0 ?_
        refine lv_istore_n (lv' := [(3, .int 0), (0, .ref (ad 1512)), (1, .int x1), (2, .int x2)]) hx hb dX10_next_72 rfl hl (by decide) rfl (fun ls hl => ?_)
        refine lv_iconst hx hb dX10_next_73 ic_0 ?_
        refine lv_istore (lv' := [(4, .int 0), (3, .int 0), (0, .ref (ad 1512)), (1, .int x1), (2, .int x2)]) hx hb dX10_next_74 hl (by decide) rfl (fun ls hl => ?_)
        have LP76 : ∀ (st76 : Int32 × Int32 × (Nat → Int32)) (ex76 : (Int32 × (Nat → Int32))), loop (xo_X10_next_p5_L76 (σ.1 1517) (σ.1 2008) (σ.2.2.1 1165) (σ.2.2.1 1170) nr (fun k => σ.1 (6000 + 16 * k + 2)) (fun k => σ.1 (6000 + 16 * k + 5)) (fun k => σ.1 (6000 + 16 * k + 6)) (fun k => σ.2.2.1 (4000 + 16 * k)) x2) st76 = some ex76 → ∀ (H : Heap) (locs : List Loc), PIC D clsA G dsc ad (sgX10_next_p8 σ (st76.2.2)) H → va_S A s.heap H locs → ∀ (ls : Array Slot), lv_has ls 7 [(0, .ref (ad 1512)), (1, .int x1), (2, .int x2), (3, .int (st76.1)), (4, .int (st76.2.1))] → (∀ (y39 : Int32) (a40 : Nat → Int32), ex76 = (y39, a40) → ∀ (H : Heap) (locs : List Loc), PIC D clsA G dsc ad (sgX10_next_p8 σ a40) H → va_S A s.heap H locs → ∀ (ls : Array Slot), lv_has ls 7 [(0, .ref (ad 1512)), (1, .int x1), (2, .int x2), (3, .int y39)] → W p l e rmX10_next_p8 s m args below meth c0 H locs 0 0 Q (F0 m 198 ls [])) → W p l e rmX10_next_p8 s m args below meth c0 H locs 0 0 Q (F0 m 76 ls []) := by
          refine loop_P (fun st76 ex76 o76 hf ih76 hx76 => ?_)
          obtain ⟨y14, y15, a16⟩ := st76
          intro H locs (hP : PIC D clsA G dsc ad (sgX10_next_p8 σ a16) H) hS ls (hl : lv_has ls 7 [(0, .ref (ad 1512)), (1, .int x1), (2, .int x2), (3, .int y14), (4, .int y15)]) KE76_0
          dsimp only [xo_X10_next_p5_L76] at hf
          refine lv_iload hx hb dX10_next_76 (lv_at hl 4 rfl) ?_
          refine lv_aload_n hx hb dX10_next_78 rfl (lv_at hl 0 rfl) ?_
          refine gx_X10_3_1512 E hX hD hP dX10_next_79 ?_
          refine gx_X10_19_1000 E hX hD hP dX10_next_82 ?_
          refine gx_X10_57_2000 (v := (σ.1 2008)) E hX hD hP sgX10_next_p8_rzI2008 dX10_next_85 ?_
          refine lv_icmp_ge (tgt := 198) hx hb dX10_next_88 (by decide) (fun c17 => ?_) (fun c17 => ?_)
          · have hf := ifT c17 hf
            exact KE76_0 _ _ (hx76 _ (Option.some.inj hf).symm).symm H locs hP hS ls (lv_sub hl [0, 1, 2, 3] rfl)
          · have hf := ifF c17 hf
            refine lv_iconst hx hb dX10_next_91 ic_0 ?_
            refine lv_istore (lv' := [(5, .int 0), (0, .ref (ad 1512)), (1, .int x1), (2, .int x2), (3, .int y14), (4, .int y15)]) hx hb dX10_next_92 hl (by decide) rfl (fun ls hl => ?_)
            have LP94 : ∀ (st94 : Int32 × Int32 × (Nat → Int32)) (ex94 : (Int32 × (Nat → Int32))), loop (xo_X10_next_p5_L94 (σ.1 1517) (σ.1 2008) (σ.2.2.1 1165) (σ.2.2.1 1170) nr (fun k => σ.1 (6000 + 16 * k + 2)) (fun k => σ.1 (6000 + 16 * k + 5)) (fun k => σ.1 (6000 + 16 * k + 6)) (fun k => σ.2.2.1 (4000 + 16 * k)) x2 y15) st94 = some ex94 → ∀ (H : Heap) (locs : List Loc), PIC D clsA G dsc ad (sgX10_next_p8 σ (st94.2.2)) H → va_S A s.heap H locs → ∀ (ls : Array Slot), lv_has ls 7 [(0, .ref (ad 1512)), (1, .int x1), (2, .int x2), (3, .int (st94.1)), (4, .int y15), (5, .int (st94.2.1))] → (∀ (y36 : Int32) (a37 : Nat → Int32), ex94 = (y36, a37) → ∀ (H : Heap) (locs : List Loc), PIC D clsA G dsc ad (sgX10_next_p8 σ a37) H → va_S A s.heap H locs → ∀ (ls : Array Slot), lv_has ls 7 [(0, .ref (ad 1512)), (1, .int x1), (2, .int x2), (3, .int y36), (4, .int y15)] → W p l e rmX10_next_p8 s m args below meth c0 H locs 0 0 Q (F0 m 192 ls [])) → W p l e rmX10_next_p8 s m args below meth c0 H locs 0 0 Q (F0 m 94 ls []) := by
              refine loop_P (fun st94 ex94 o94 hf ih94 hx94 => ?_)
              obtain ⟨y18, y19, a20⟩ := st94
              intro H locs (hP : PIC D clsA G dsc ad (sgX10_next_p8 σ a20) H) hS ls (hl : lv_has ls 7 [(0, .ref (ad 1512)), (1, .int x1), (2, .int x2), (3, .int y18), (4, .int y15), (5, .int y19)]) KE94_0
              dsimp only [xo_X10_next_p5_L94] at hf
              refine lv_iload hx hb dX10_next_94 (lv_at hl 5 rfl) ?_
              refine lv_aload_n hx hb dX10_next_96 rfl (lv_at hl 0 rfl) ?_
              refine gx_X10_3_1512 E hX hD hP dX10_next_97 ?_
              refine gx_X10_19_1000 E hX hD hP dX10_next_100 ?_
              refine gx_X10_57_2000 (v := (σ.1 2008)) E hX hD hP sgX10_next_p8_rzI2008 dX10_next_103 ?_
              refine lv_icmp_ge (tgt := 192) hx hb dX10_next_106 (by decide) (fun c21 => ?_) (fun c21 => ?_)
              · have hf := ifT c21 hf
                exact KE94_0 _ _ (hx94 _ (Option.some.inj hf).symm).symm H locs hP hS ls (lv_sub hl [0, 1, 2, 3, 4] rfl)
              · have hf := ifF c21 hf
                refine lv_aload_n hx hb dX10_next_109 rfl (lv_at hl 0 rfl) ?_
                refine gx_X10_15_1512 E hX hD hP dX10_next_110 ?_
                refine lv_iload hx hb dX10_next_113 (lv_at hl 5 rfl) ?_
                obtain ⟨v22, hv22, hf⟩ := bdP hf
                refine p_iald hx hb hX.1 hP (hD.1 _ _ dX_1161) sgX10_next_p8_raI1161 hv22 dX10_next_115 ?_
                refine lv_ldc hx hb hown (hts _ q1205) dX10_next_116 ?_
                have J135 : ∀ (k23 : Int32), xo_X10_next_p5_J135 y15 y18 y19 a20 k23 = some o94 → ∀ (H : Heap) (locs : List Loc), PIC D clsA G dsc ad (sgX10_next_p8 σ a20) H → va_S A s.heap H locs → ∀ (ls : Array Slot), lv_has ls 7 [(0, .ref (ad 1512)), (1, .int x1), (2, .int x2), (3, .int y18), (4, .int y15), (5, .int y19)] → W p l e rmX10_next_p8 s m args below meth c0 H locs 0 0 Q (F0 m 135 ls [.int k23]) := by
                  intro k23 hf H locs hP hS ls hl
                  unfold xo_X10_next_p5_J135 at hf
                  refine lv_istore (lv' := [(6, .int k23), (0, .ref (ad 1512)), (1, .int x1), (2, .int x2), (3, .int y18), (4, .int y15), (5, .int y19)]) hx hb dX10_next_135 hl (by decide) rfl (fun ls hl => ?_)
                  refine lv_iload hx hb dX10_next_137 (lv_at hl 0 rfl) ?_
                  refine lv_ldc hx hb hown (hts _ q1205) dX10_next_139 ?_
                  have J186 : ∀ (y24 : Int32) (a25 : Nat → Int32), xo_X10_next_p5_J186 y19 y24 a25 = some o94 → ∀ (H : Heap) (locs : List Loc), PIC D clsA G dsc ad (sgX10_next_p8 σ a25) H → va_S A s.heap H locs → ∀ (ls : Array Slot), lv_has ls 7 [(0, .ref (ad 1512)), (1, .int x1), (2, .int x2), (3, .int y24), (4, .int y15), (5, .int y19)] → W p l e rmX10_next_p8 s m args below meth c0 H locs 0 0 Q (F0 m 186 ls []) := by
                    intro y24 a25 hf H locs hP hS ls hl
                    unfold xo_X10_next_p5_J186 at hf
                    obtain ⟨v26, hv26, hf⟩ := bdP hf
                    refine lv_iinc (v := v26) (lv' := [(5, .int v26), (0, .ref (ad 1512)), (1, .int x1), (2, .int x2), (3, .int y24), (4, .int y15)]) hx hb dX10_next_186 hl (k := 5) rfl (Option.some.inj hv26) (by decide) rfl (fun ls hl => ?_)
                    refine lv_goto (tgt := 94) hx hb dX10_next_189 (by decide) ?_
                    exact ih94 _ (Option.some.inj hf).symm H locs hP hS ls (lv_sub hl [1, 2, 3, 4, 5, 0] rfl) KE94_0
                  refine lv_icmp_eq (tgt := 186) hx hb dX10_next_141 (by decide) (fun c27 => ?_) (fun c27 => ?_)
                  · have hf := ifT c27 hf
                    exact J186 y18 a20 hf H locs hP hS ls (lv_sub hl [1, 2, 3, 4, 5, 6] rfl)
                  · have hf := ifF c27 hf
                    refine lv_aload_n hx hb dX10_next_144 rfl (lv_at hl 1 rfl) ?_
                    refine gx_X10_15_1512 E hX hD hP dX10_next_145 ?_
                    refine lv_iload hx hb dX10_next_148 (lv_at hl 6 rfl) ?_
                    obtain ⟨v28, hv28, hf⟩ := bdP hf
                    refine p_iald hx hb hX.1 hP (hD.1 _ _ dX_1161) sgX10_next_p8_raI1161 hv28 dX10_next_150 ?_
                    refine lv_iload hx hb dX10_next_151 (lv_at hl 0 rfl) ?_
                    refine lv_iadd hx hb dX10_next_153 ?_
                    refine lv_aload_n hx hb dX10_next_154 rfl (lv_at hl 1 rfl) ?_
                    refine gx_X10_15_1512 E hX hD hP dX10_next_155 ?_
                    refine lv_iload hx hb dX10_next_158 (lv_at hl 5 rfl) ?_
                    obtain ⟨v29, hv29, hf⟩ := bdP hf
                    refine p_iald hx hb hX.1 hP (hD.1 _ _ dX_1161) sgX10_next_p8_raI1161 hv29 dX10_next_160 ?_
                    refine lv_icmp_lt (tgt := 167) hx hb dX10_next_161 (by decide) (fun c30 => ?_) (fun c30 => ?_)
                    · have hf := ifT c30 hf
                      refine lv_aload_n hx hb dX10_next_167 rfl (lv_at hl 1 rfl) ?_
                      refine gx_X10_15_1512 E hX hD hP dX10_next_168 ?_
                      refine lv_iload hx hb dX10_next_171 (lv_at hl 5 rfl) ?_
                      refine lv_aload_n hx hb dX10_next_173 rfl (lv_at hl 1 rfl) ?_
                      refine gx_X10_15_1512 E hX hD hP dX10_next_174 ?_
                      refine lv_iload hx hb dX10_next_177 (lv_at hl 6 rfl) ?_
                      obtain ⟨v31, hv31, hf⟩ := bdP hf
                      refine p_iald hx hb hX.1 hP (hD.1 _ _ dX_1161) sgX10_next_p8_raI1161 hv31 dX10_next_179 ?_
                      refine lv_iload hx hb dX10_next_180 (lv_at hl 0 rfl) ?_
                      refine lv_iadd hx hb dX10_next_182 ?_
                      obtain ⟨a32, ha32, hf⟩ := bdP hf
                      refine p_iast hx hb hX.1 hP hS (hA _ (PA_c (hD.1 _ _ dX_1161))) (hD.1 _ _ dX_1161) sgX10_next_p8_raI1161 ha32 sgX10_next_p8_aI1161 dX10_next_183 (fun H locs hP hS => ?_)
                      refine lv_iconst hx hb dX10_next_184 ic_1 ?_
                      refine lv_istore_n (lv' := [(3, .int 1), (6, .int k23), (0, .ref (ad 1512)), (1, .int x1), (2, .int x2), (4, .int y15), (5, .int y19)]) hx hb dX10_next_185 rfl hl (by decide) rfl (fun ls hl => ?_)
                      exact J186 1 a32 hf H locs hP hS ls (lv_sub hl [2, 3, 4, 0, 5, 6] rfl)
                    · have hf := ifF c30 hf
                      refine lv_goto (tgt := 186) hx hb dX10_next_164 (by decide) ?_
                      exact J186 y18 a20 hf H locs hP hS ls (lv_sub hl [1, 2, 3, 4, 5, 6] rfl)
                refine lv_icmp_ne (tgt := 126) hx hb dX10_next_118 (by decide) (fun c33 => ?_) (fun c33 => ?_)
                · have hf := ifF c33 hf
                  refine lv_aload_n hx hb dX10_next_126 rfl (lv_at hl 0 rfl) ?_
                  refine lv_iload hx hb dX10_next_127 (lv_at hl 4 rfl) ?_
                  refine lv_iload hx hb dX10_next_129 (lv_at hl 5 rfl) ?_
                  refine lv_iload_n hx hb dX10_next_131 rfl (lv_at hl 2 rfl) ?_
                  obtain ⟨v34, u35, hf⟩ := bdP hf
                  refine cx_X10_60_X10_cost_p8 E hX hD hP hS hA (kxX10_cost_p8 l D G hD sgX10_next_p8_rzI1517 sgX10_next_p8_raI1165 sgX10_next_p8_raI1170 rfl sgX10_next_p8_rpR2 sgX10_next_p8_rpR5 sgX10_next_p8_rpR6 sgX10_next_p8_rgG0 u35) ⟨rfl, rfl⟩ ⟨Nat.le_of_ble_eq_true rfl, Nat.le_of_ble_eq_true rfl⟩ ⟨Nat.zero_le _, Nat.zero_le _⟩ hl.1 (Nat.le_of_ble_eq_true rfl) dX10_next_132 (fun H locs hP hS => ?_)
                  exact J135 v34 hf H locs hP hS ls (lv_sub hl [0, 1, 2, 3, 4, 5] rfl)
                · have hf := ifT c33 hf
                  refine lv_ldc hx hb hown (hts _ q1205) dX10_next_121 ?_
                  refine lv_goto (tgt := 135) hx hb dX10_next_123 (by decide) ?_
                  exact J135 1000000 hf H locs hP hS ls (lv_sub hl [0, 1, 2, 3, 4, 5] rfl)
            obtain ⟨ex94, hlp94, hf⟩ := bdP hf
            refine LP94 (y14, 0, a16) ex94 hlp94 H locs hP hS ls (lv_sub hl [1, 2, 3, 4, 5, 0] rfl) ?_
            intro y36 a37 hex94 H locs hP hS ls hl
            subst ex94
            dsimp only at hf
            obtain ⟨v38, hv38, hf⟩ := bdP hf
            refine lv_iinc (v := v38) (lv' := [(4, .int v38), (0, .ref (ad 1512)), (1, .int x1), (2, .int x2), (3, .int y36)]) hx hb dX10_next_192 hl (k := 4) rfl (Option.some.inj hv38) (by decide) rfl (fun ls hl => ?_)
            refine lv_goto (tgt := 76) hx hb dX10_next_195 (by decide) ?_
            exact ih76 _ (Option.some.inj hf).symm H locs hP hS ls (lv_sub hl [1, 2, 3, 4, 0] rfl) KE76_0
        obtain ⟨ex76, hlp76, hf⟩ := bdP hf
        refine LP76 (0, 0, a12) ex76 hlp76 H locs hP hS ls (lv_sub hl [2, 3, 4, 1, 0] rfl) ?_
        intro y39 a40 hex76 H locs hP hS ls hl
        subst ex76
        dsimp only at hf
        refine lv_goto (tgt := 67) hx hb dX10_next_198 (by decide) ?_
        exact ih67 _ (Option.some.inj hf).symm H locs hP hS ls (lv_sub hl [0, 1, 2, 3] rfl) KE67_0
    obtain ⟨ex67, hlp67, hf⟩ := bdP hf
    refine LP67 (1, a10) ex67 hlp67 H locs hP hS ls (lv_sub hl [1, 2, 3, 0] rfl) ?_
    intro a41 hex67 H locs hP hS ls hl
    subst ex67
    refine lv_iconst hx hb dX10_next_201 ic_0 ?_
    refine lv_istore (lv' := [(4, .int 0), (0, .ref (ad 1512)), (1, .int x1), (2, .int x2)]) hx hb dX10_next_202 hl (by decide) rfl (fun ls hl => ?_)
    have LP204 : ∀ (st204 : Int32) (ex204 : (Int32) ⊕ (Unit)), loop (xo_X10_next_p5_L204 (σ.1 1517) (σ.1 2008) (σ.2.2.1 1165) (σ.2.2.1 1170) nr (fun k => σ.1 (6000 + 16 * k + 2)) (fun k => σ.1 (6000 + 16 * k + 5)) (fun k => σ.1 (6000 + 16 * k + 6)) (fun k => σ.2.2.1 (4000 + 16 * k)) x1 x2 a41) st204 = some ex204 → ∀ (H : Heap) (locs : List Loc), PIC D clsA G dsc ad (sgX10_next_p8 σ a41) H → va_S A s.heap H locs → ∀ (ls : Array Slot), lv_has ls 7 [(0, .ref (ad 1512)), (1, .int x1), (2, .int x2), (4, .int st204)] → (∀ (y57 : Int32), ex204 = (.inl y57) → ∀ (H : Heap) (locs : List Loc), PIC D clsA G dsc ad (sgX10_next_p8 σ a41) H → va_S A s.heap H locs → ∀ (ls : Array Slot), lv_has ls 7 [(4, .int y57)] → W p l e rmX10_next_p8 s m args below meth c0 H locs 0 0 Q (F0 m 280 ls [])) → (ex204 = (.inr ()) → ∀ (H : Heap) (locs : List Loc), PIC D clsA G dsc ad (sgX10_next_p8 σ a41) H → va_S A s.heap H locs → ∀ (ls : Array Slot), lv_has ls 7 [] → W p l e rmX10_next_p8 s m args below meth c0 H locs 0 0 Q (F0 m 289 ls [])) → W p l e rmX10_next_p8 s m args below meth c0 H locs 0 0 Q (F0 m 204 ls []) := by
      refine loop_P (fun st204 ex204 o204 hf ih204 hx204 => ?_)
      obtain ⟨y42, rfl⟩ : ∃ z, z = st204 := ⟨_, rfl⟩
      intro H locs (hP : PIC D clsA G dsc ad (sgX10_next_p8 σ a41) H) hS ls (hl : lv_has ls 7 [(0, .ref (ad 1512)), (1, .int x1), (2, .int x2), (4, .int y42)]) KE204_0 KE204_1
      dsimp only [xo_X10_next_p5_L204] at hf
      refine lv_iload hx hb dX10_next_204 (lv_at hl 3 rfl) ?_
      refine lv_aload_n hx hb dX10_next_206 rfl (lv_at hl 0 rfl) ?_
      refine gx_X10_3_1512 E hX hD hP dX10_next_207 ?_
      refine gx_X10_19_1000 E hX hD hP dX10_next_210 ?_
      refine gx_X10_57_2000 (v := (σ.1 2008)) E hX hD hP sgX10_next_p8_rzI2008 dX10_next_213 ?_
      refine lv_icmp_ge (tgt := 289) hx hb dX10_next_216 (by decide) (fun c43 => ?_) (fun c43 => ?_)
      · have hf := ifT c43 hf
        exact KE204_1  (hx204 _ (Option.some.inj hf).symm).symm H locs hP hS ls (lv_sub hl [] rfl)
      · have hf := ifF c43 hf
        refine lv_aload_n hx hb dX10_next_219 rfl (lv_at hl 0 rfl) ?_
        refine gx_X10_15_1512 E hX hD hP dX10_next_220 ?_
        refine lv_iload_n hx hb dX10_next_223 rfl (lv_at hl 1 rfl) ?_
        obtain ⟨v44, hv44, hf⟩ := bdP hf
        refine p_iald hx hb hX.1 hP (hD.1 _ _ dX_1161) sgX10_next_p8_raI1161 hv44 dX10_next_224 ?_
        refine lv_ldc hx hb hown (hts _ q1205) dX10_next_225 ?_
        refine lv_icmp_ge (tgt := 289) hx hb dX10_next_227 (by decide) (fun c45 => ?_) (fun c45 => ?_)
        · have hf := ifT c45 hf
          exact KE204_1  (hx204 _ (Option.some.inj hf).symm).symm H locs hP hS ls (lv_sub hl [] rfl)
        · have hf := ifF c45 hf
          refine lv_aload_n hx hb dX10_next_230 rfl (lv_at hl 0 rfl) ?_
          refine gx_X10_15_1512 E hX hD hP dX10_next_231 ?_
          refine lv_iload hx hb dX10_next_234 (lv_at hl 3 rfl) ?_
          obtain ⟨v46, hv46, hf⟩ := bdP hf
          refine p_iald hx hb hX.1 hP (hD.1 _ _ dX_1161) sgX10_next_p8_raI1161 hv46 dX10_next_236 ?_
          refine lv_ldc hx hb hown (hts _ q1205) dX10_next_237 ?_
          have J283 : xo_X10_next_p5_J283 y42 = some o204 → ∀ (H : Heap) (locs : List Loc), PIC D clsA G dsc ad (sgX10_next_p8 σ a41) H → va_S A s.heap H locs → ∀ (ls : Array Slot), lv_has ls 7 [(0, .ref (ad 1512)), (1, .int x1), (2, .int x2), (4, .int y42)] → W p l e rmX10_next_p8 s m args below meth c0 H locs 0 0 Q (F0 m 283 ls []) := by
            intro  hf H locs hP hS ls hl
            unfold xo_X10_next_p5_J283 at hf
            obtain ⟨v47, hv47, hf⟩ := bdP hf
            refine lv_iinc (v := v47) (lv' := [(4, .int v47), (0, .ref (ad 1512)), (1, .int x1), (2, .int x2)]) hx hb dX10_next_283 hl (k := 3) rfl (Option.some.inj hv47) (by decide) rfl (fun ls hl => ?_)
            refine lv_goto (tgt := 204) hx hb dX10_next_286 (by decide) ?_
            exact ih204 _ (Option.some.inj hf).symm H locs hP hS ls (lv_sub hl [1, 2, 3, 0] rfl) KE204_0 KE204_1
          refine lv_icmp_ge (tgt := 283) hx hb dX10_next_239 (by decide) (fun c48 => ?_) (fun c48 => ?_)
          · have hf := ifT c48 hf
            exact J283  hf H locs hP hS ls (lv_sub hl [0, 1, 2, 3] rfl)
          · have hf := ifF c48 hf
            refine lv_aload_n hx hb dX10_next_242 rfl (lv_at hl 0 rfl) ?_
            refine lv_iload_n hx hb dX10_next_243 rfl (lv_at hl 1 rfl) ?_
            refine lv_iload hx hb dX10_next_244 (lv_at hl 3 rfl) ?_
            refine lv_iload_n hx hb dX10_next_246 rfl (lv_at hl 2 rfl) ?_
            obtain ⟨v49, u50, hf⟩ := bdP hf
            refine cx_X10_60_X10_cost_p8 E hX hD hP hS hA (kxX10_cost_p8 l D G hD sgX10_next_p8_rzI1517 sgX10_next_p8_raI1165 sgX10_next_p8_raI1170 rfl sgX10_next_p8_rpR2 sgX10_next_p8_rpR5 sgX10_next_p8_rpR6 sgX10_next_p8_rgG0 u50) ⟨rfl, rfl⟩ ⟨Nat.le_of_ble_eq_true rfl, Nat.le_of_ble_eq_true rfl⟩ ⟨Nat.zero_le _, Nat.zero_le _⟩ hl.1 (Nat.le_of_ble_eq_true rfl) dX10_next_247 (fun H locs hP hS => ?_)
            refine lv_ldc hx hb hown (hts _ q1205) dX10_next_250 ?_
            refine lv_icmp_ge (tgt := 283) hx hb dX10_next_252 (by decide) (fun c51 => ?_) (fun c51 => ?_)
            · have hf := ifT c51 hf
              exact J283  hf H locs hP hS ls (lv_sub hl [0, 1, 2, 3] rfl)
            · have hf := ifF c51 hf
              refine lv_aload_n hx hb dX10_next_255 rfl (lv_at hl 0 rfl) ?_
              refine lv_iload_n hx hb dX10_next_256 rfl (lv_at hl 1 rfl) ?_
              refine lv_iload hx hb dX10_next_257 (lv_at hl 3 rfl) ?_
              refine lv_iload_n hx hb dX10_next_259 rfl (lv_at hl 2 rfl) ?_
              obtain ⟨v52, u53, hf⟩ := bdP hf
              refine cx_X10_60_X10_cost_p8 E hX hD hP hS hA (kxX10_cost_p8 l D G hD sgX10_next_p8_rzI1517 sgX10_next_p8_raI1165 sgX10_next_p8_raI1170 rfl sgX10_next_p8_rpR2 sgX10_next_p8_rpR5 sgX10_next_p8_rpR6 sgX10_next_p8_rgG0 u53) ⟨rfl, rfl⟩ ⟨Nat.le_of_ble_eq_true rfl, Nat.le_of_ble_eq_true rfl⟩ ⟨Nat.zero_le _, Nat.zero_le _⟩ hl.1 (Nat.le_of_ble_eq_true rfl) dX10_next_260 (fun H locs hP hS => ?_)
              refine lv_aload_n hx hb dX10_next_263 rfl (lv_at hl 0 rfl) ?_
              refine gx_X10_15_1512 E hX hD hP dX10_next_264 ?_
              refine lv_iload hx hb dX10_next_267 (lv_at hl 3 rfl) ?_
              obtain ⟨v54, hv54, hf⟩ := bdP hf
              refine p_iald hx hb hX.1 hP (hD.1 _ _ dX_1161) sgX10_next_p8_raI1161 hv54 dX10_next_269 ?_
              refine lv_iadd hx hb dX10_next_270 ?_
              refine lv_aload_n hx hb dX10_next_271 rfl (lv_at hl 0 rfl) ?_
              refine gx_X10_15_1512 E hX hD hP dX10_next_272 ?_
              refine lv_iload_n hx hb dX10_next_275 rfl (lv_at hl 1 rfl) ?_
              obtain ⟨v55, hv55, hf⟩ := bdP hf
              refine p_iald hx hb hX.1 hP (hD.1 _ _ dX_1161) sgX10_next_p8_raI1161 hv55 dX10_next_276 ?_
              refine lv_icmp_ne (tgt := 283) hx hb dX10_next_277 (by decide) (fun c56 => ?_) (fun c56 => ?_)
              · have hf := ifF c56 hf
                exact J283  hf H locs hP hS ls (lv_sub hl [0, 1, 2, 3] rfl)
              · have hf := ifT c56 hf
                exact KE204_0 _ (hx204 _ (Option.some.inj hf).symm).symm H locs hP hS ls (lv_sub hl [3] rfl)
    obtain ⟨ex204, hlp204, hf⟩ := bdP hf
    refine LP204 0 ex204 hlp204 H locs hP hS ls (lv_sub hl [1, 2, 3, 0] rfl) ?_ ?_
    · intro y57 hex204 H locs hP hS ls hl
      subst ex204
      dsimp only [sE_l, sE_r] at hf
      refine lv_iload hx hb dX10_next_280 (lv_at hl 0 rfl) ?_
      cases hf
      rw [hQ]; exact g_iret hx hb hr hlk hP hS dX10_next_282
    · intro  hex204 H locs hP hS ls hl
      subst ex204
      dsimp only [sE_l, sE_r] at hf
      refine lv_bipush hx hb dX10_next_289 bp_m2 ?_
      cases hf
      rw [hQ]; exact g_iret hx hb hr hlk hP hS dX10_next_291
  · have hf := ifT c1 hf
    refine lv_bipush hx hb dX10_next_14 bp_m2 ?_
    cases hf
    rw [hQ]; exact g_iret hx hb hr hlk hP hS dX10_next_16
theorem kxX10_next_p8 (l : Launch) (D : va_G) (G : Nat → ClassId) {dsc : Nat → Option Dsc} {ad : Nat → Nat} {σ : Sto} {nr nw nu : Nat} (hD : XD dsc nr nw nu) {x1 : Int32} {x2 : Int32} {r_ : Int32} {w_aI1161 : Nat → Int32} {z_p8_many : Int32} (e_zI1517 : σ.1 1517 = z_p8_many) {z_L_places : Int32} (e_zI2008 : σ.1 2008 = z_L_places) {z_L_to : Int32} (e_zI2013 : σ.1 2013 = z_L_to) {a_p8_far : Nat → Int32} (e_aI1161 : σ.2.2.1 1161 = a_p8_far) {a_p8_row : Nat → Int32} (e_aI1165 : σ.2.2.1 1165 = a_p8_row) {a_UNIT : Nat → Int32} (e_aI1170 : σ.2.2.1 1170 = a_UNIT) {n_r : Nat} (e_nN0 : nr = n_r) {p_road_hours : Nat → Int32} (e_pR2 : (fun k => σ.1 (6000 + 16 * k + 2)) = p_road_hours) {p_road_wait : Nat → Int32} (e_pR5 : (fun k => σ.1 (6000 + 16 * k + 5)) = p_road_wait) {p_road_number : Nat → Int32} (e_pR6 : (fun k => σ.1 (6000 + 16 * k + 6)) = p_road_number) {g_grid : Nat → Nat → Int32} (e_gG0 : (fun k => σ.2.2.1 (4000 + 16 * k)) = g_grid) (hf : xo_X10_next_p5 z_p8_many z_L_places z_L_to a_p8_far a_p8_row a_UNIT n_r p_road_hours p_road_wait p_road_number g_grid x1 x2 = some (r_, w_aI1161)) : CtG l D G dsc ad yX10_next (ws_ yX10_next cX10_next 7 (Option.some Jvm.ClassFile.FieldType.int)) rmX10_next_p8 [.ref (ad 1512), .int x1, .int x2] σ (some (.int r_)) (aI σ 1161 w_aI1161) := by
  subst e_zI1517
  subst e_zI2008
  subst e_zI2013
  subst e_aI1161
  subst e_aI1165
  subst e_aI1170
  subst e_nN0
  subst e_pR2
  subst e_pR5
  subst e_pR6
  subst e_gG0
  exact p_ctG (by decide +kernel) (Nat.le_of_ble_eq_true rfl) (fun p e s m below meth c0 ls A E hP hX hA hS hl => wkX10_next_p8 E hX hD hA hf rfl hP hS hl)
theorem gx_X1_53_1000 (E : EN p s m args meth c0 RX1 cc nL ret) (hX : KX D G ad A s s.heap) (hD : XD dsc nr nw nu) (hP : PIC D clsA G dsc ad σ H) (hdg : decode cc pc = .ok (.getfield 53, 3)) (kk : W p l e R s m args below meth c0 H locs cells slots Q (F0 m (pc + 3) ls (.ref (ad 1060) :: rest))) : W p l e R s m args below meth c0 H locs cells slots Q (F0 m pc ls (.ref (ad 1000) :: rest)) :=
  p_get E.1.1 E.1.2.1 E.1.2.2.2.2 in_X1 E.1.2.2.2.1 hX.1 hP (hD.1 _ _ dX_1000) rfl 9 (by decide) (E.1.2.2.2.2 _ q520) (fun _ h => h) rfl rfl hdg kk
theorem gx_X1_253_2000 {v : Int32} (E : EN p s m args meth c0 RX1 cc nL ret) (hX : KX D G ad A s s.heap) (hD : XD dsc nr nw nu) (hP : PIC D clsA G dsc ad σ H) (hv : σ.1 2012 = v) (hdg : decode cc pc = .ok (.getfield 253, 3)) (kk : W p l e R s m args below meth c0 H locs cells slots Q (F0 m (pc + 3) ls (.int v :: rest))) : W p l e R s m args below meth c0 H locs cells slots Q (F0 m pc ls (.ref (ad 2000) :: rest)) :=
  p_getN E.1.1 E.1.2.1 E.1.2.2.2.2 in_X3 E.1.2.2.2.1 hX.1 hP (hD.1 _ _ dX_2000) rfl 12 (by decide) (hX.2.1.1 _ q279 rfl) (fun _ h => h) rfl (congrArg Value.int hv) hdg kk
theorem cx_X1_415_X5_over_TB {rm : Room} {σ1 : Sto} {x1 : Int32} {x2 : Int32} {x3 : Int32} {r : Int64} (E : EN p s m args meth c0 RX1 cc nL ret) (hX : KX D G ad A s s.heap) (hD : XD dsc nr nw nu) (hP : PIC D clsA G dsc ad σ H) (hS : va_S A s.heap H locs) (hA : ∀ q, PA dsc ad s.heap.size q → A q) (hM : CtG l D G dsc ad yX5_over (ws_ yX5_over cX5_over 9 (Option.some Jvm.ClassFile.FieldType.long)) rm [.ref (ad 1060), .int x1, .int x2, .int x3] σ (some (.long r)) σ1) (hz : rm.cells = 0 ∧ rm.slots = 0) (hR : rm.frames + 1 ≤ R.frames ∧ 8 + (9 + 11) + rm.locals ≤ R.locals) (hcs : cells ≤ R.cells ∧ slots ≤ R.slots) (hsz : ls.size = nL) (hW : (rest.map fun v => v.category).sum ≤ 8) (hdg : decode cc pc = .ok (.invokevirtual 415, 3)) (kk : ∀ (H1 : Heap) (locs1 : List Loc), PIC D clsA G dsc ad σ1 H1 → va_S A s.heap H1 locs1 → W p l e R s m args below meth c0 H1 locs1 cells slots Q (F0 m (pc + 3) ls (.long r :: rest))) : W p l e R s m args below meth c0 H locs cells slots Q (F0 m pc ls (.int x3 :: .int x2 :: .int x1 :: .ref (ad 1060) :: rest)) :=
  p_gU (As := [.int x1, .int x2, .int x3]) (rest := rest) E.1 hX hP hS hA hM (cw_any (owner := "ShutPasses$Table") (x := ⟨"ShutPasses$InMean", "over", "(III)J"⟩) (y := yX5_over) (C := "ShutPasses$InMean") (index := 415) (own := RX1) 3 E.1.2.2.2.2 (lw_meth q1124) rfl hz.1 hz.2 (E.1.2.2.2.2 _ q1478) (E.1.2.2.2.2 _ q1479) (va_Decl.of (E.1.2.2.2.2 _ q1119) (E.1.2.2.2.2 _ q1124)) (E.1.2.2.2.2 _ q1482) (E.1.2.2.2.2 _ q1119) (E.1.2.2.2.2 _ q131) (by decide +kernel) hR) (hD.1 _ _ dX_1060) rfl rfl rfl hsz rfl hW hdg hcs kk
/-! X1_ahead (I)J -/
abbrev rmX1_ahead : Room := { frames := 43, cells := 0, slots := 0, locals := 1193 }
set_option maxHeartbeats 4000000 in
theorem wkX1_ahead {x1 : Int32} {r_ : Int64} (E : EN p s m args meth c0 RX1 cX1_ahead 2 (Option.some Jvm.ClassFile.FieldType.long)) (hX : KX D G ad A s s.heap) (hD : XD dsc nr nw nu) (hA : ∀ q, PA dsc ad s.heap.size q → A q) (hf : xo_X1_ahead (σ.1 1062) (σ.1 2012) (σ.1 2013) (σ.1 2027) (σ.2.1 1061) (σ.2.2.1 1170) (σ.2.2.1 2043) (σ.2.2.2.1 1141) (σ.2.2.2.1 1150) x1 = some r_) (hQ : Q = MQ below (va_G1 (some (.long r_)) (fun t => PIC D clsA G dsc ad σ t.heap) A) args s 0 0 A) (hP : PIC D clsA G dsc ad σ H) (hS : va_S A s.heap H locs) (hl : lv_has ls 2 [(0, .ref (ad 1000)), (1, .int x1)]) : W p l e rmX1_ahead s m args below meth c0 H locs 0 0 Q (F0 m 0 ls []) := by
  obtain ⟨⟨hx, hb, hml, hown, hts⟩, hr, hlk⟩ := id E
  unfold xo_X1_ahead at hf
  refine lv_aload_n hx hb dX1_ahead_0 rfl (lv_at hl 0 rfl) ?_
  refine gx_X1_53_1000 E hX hD hP dX1_ahead_1 ?_
  refine lv_iload_n hx hb dX1_ahead_4 rfl (lv_at hl 1 rfl) ?_
  refine lv_aload_n hx hb dX1_ahead_5 rfl (lv_at hl 0 rfl) ?_
  refine gx_X1_33_1000 E hX hD hP dX1_ahead_6 ?_
  refine gx_X1_253_2000 (v := (σ.1 2012)) E hX hD hP rfl dX1_ahead_9 ?_
  refine lv_iconst hx hb dX1_ahead_12 ic_0 ?_
  obtain ⟨v1, u2, hf⟩ := bdP hf
  refine cx_X1_415_X5_over_TB E hX hD hP hS hA (kxX5_over_TB l D G hD rfl rfl rfl rfl rfl rfl rfl rfl u2) ⟨rfl, rfl⟩ ⟨Nat.le_of_ble_eq_true rfl, Nat.le_of_ble_eq_true rfl⟩ ⟨Nat.zero_le _, Nat.zero_le _⟩ hl.1 (Nat.le_of_ble_eq_true rfl) dX1_ahead_13 (fun H locs hP hS => ?_)
  cases hf
  rw [hQ]; exact g_lret hx hb hr hlk hP hS dX1_ahead_16
theorem kxX1_ahead (l : Launch) (D : va_G) (G : Nat → ClassId) {dsc : Nat → Option Dsc} {ad : Nat → Nat} {σ : Sto} {nr nw nu : Nat} (hD : XD dsc nr nw nu) {x1 : Int32} {r_ : Int64} {z_TB_by : Int32} (e_zI1062 : σ.1 1062 = z_TB_by) {z_L_from : Int32} (e_zI2012 : σ.1 2012 = z_L_from) {z_L_to : Int32} (e_zI2013 : σ.1 2013 = z_L_to) {z_Ld_size : Int32} (e_zI2027 : σ.1 2027 = z_Ld_size) {z_TB_none : Int64} (e_zL1061 : σ.2.1 1061 = z_TB_none) {a_UNIT : Nat → Int32} (e_aI1170 : σ.2.2.1 1170 = a_UNIT) {a_L_seen : Nat → Int32} (e_aI2043 : σ.2.2.1 2043 = a_L_seen) {a_W_likely : Nat → Int64} (e_aL1141 : σ.2.2.2.1 1141 = a_W_likely) {a_TB_value : Nat → Int64} (e_aL1150 : σ.2.2.2.1 1150 = a_TB_value) (hf : xo_X1_ahead z_TB_by z_L_from z_L_to z_Ld_size z_TB_none a_UNIT a_L_seen a_W_likely a_TB_value x1 = some r_) : CtG l D G dsc ad yX1_ahead (ws_ yX1_ahead cX1_ahead 2 (Option.some Jvm.ClassFile.FieldType.long)) rmX1_ahead [.ref (ad 1000), .int x1] σ (some (.long r_)) σ := by
  subst e_zI1062
  subst e_zI2012
  subst e_zI2013
  subst e_zI2027
  subst e_zL1061
  subst e_aI1170
  subst e_aI2043
  subst e_aL1141
  subst e_aL1150
  exact p_ctG (by decide +kernel) (Nat.le_of_ble_eq_true rfl) (fun p e s m below meth c0 ls A E hP hX hA hS hl => wkX1_ahead E hX hD hA hf rfl hP hS hl)
theorem gx_X1_168_1000 {v : Int32} (E : EN p s m args meth c0 RX1 cc nL ret) (hX : KX D G ad A s s.heap) (hD : XD dsc nr nw nu) (hP : PIC D clsA G dsc ad σ H) (hv : σ.1 1027 = v) (hdg : decode cc pc = .ok (.getfield 168, 3)) (kk : W p l e R s m args below meth c0 H locs cells slots Q (F0 m (pc + 3) ls (.int v :: rest))) : W p l e R s m args below meth c0 H locs cells slots Q (F0 m pc ls (.ref (ad 1000) :: rest)) :=
  p_get E.1.1 E.1.2.1 E.1.2.2.2.2 in_X1 E.1.2.2.2.1 hX.1 hP (hD.1 _ _ dX_1000) rfl 27 (by decide) (E.1.2.2.2.2 _ q539) (fun _ h => h) rfl (congrArg Value.int hv) hdg kk
theorem gx_X1_452_1000 {v : Int32} (E : EN p s m args meth c0 RX1 cc nL ret) (hX : KX D G ad A s s.heap) (hD : XD dsc nr nw nu) (hP : PIC D clsA G dsc ad σ H) (hv : σ.1 1029 = v) (hdg : decode cc pc = .ok (.getfield 452, 3)) (kk : W p l e R s m args below meth c0 H locs cells slots Q (F0 m (pc + 3) ls (.int v :: rest))) : W p l e R s m args below meth c0 H locs cells slots Q (F0 m pc ls (.ref (ad 1000) :: rest)) :=
  p_get E.1.1 E.1.2.1 E.1.2.2.2.2 in_X1 E.1.2.2.2.1 hX.1 hP (hD.1 _ _ dX_1000) rfl 29 (by decide) (E.1.2.2.2.2 _ q541) (fun _ h => h) rfl (congrArg Value.int hv) hdg kk
theorem ux_X1_452_1000 {v : Int32} {σ1 : Sto} (E : EN p s m args meth c0 RX1 cc nL ret) (hX : KX D G ad A s s.heap) (hD : XD dsc nr nw nu) (hP : PIC D clsA G dsc ad σ H) (hS : va_S A s.heap H locs) (hA : A (ad 1000)) (hσ : zI σ 1029 v = σ1) (hdg : decode cc pc = .ok (.putfield 452, 3)) (kk : ∀ (H1 : Heap) (locs1 : List Loc), PIC D clsA G dsc ad σ1 H1 → va_S A s.heap H1 locs1 → W p l e R s m args below meth c0 H1 locs1 cells slots Q (F0 m (pc + 3) ls rest)) : W p l e R s m args below meth c0 H locs cells slots Q (F0 m pc ls (.int v :: .ref (ad 1000) :: rest)) :=
  p_puti2 E.1.1 E.1.2.1 E.1.2.2.2.2 in_X1 tyX1 tyX1_ok E.1.2.2.2.1 hX.1 hP hS hA (hD.1 _ _ dX_1000) rfl 29 (by decide) (by decide +kernel) (E.1.2.2.2.2 _ q541) (fun _ h => h) rfl rfl rfl rfl rfl hσ hdg kk
/-! X1_back ()I -/
def sgX1_back (σ : Sto) (w0 : Int32) : Sto := zI σ 1029 w0
theorem sgX1_back_self (σ : Sto) : sgX1_back σ (σ.1 1029) = σ := by
  unfold sgX1_back
  simp only [zI_self, zL_self, aI_self, aL_self]
theorem sgX1_back_zI1029 {σ : Sto} {w0 : Int32} {g : Int32} : zI (sgX1_back σ w0) 1029 g = sgX1_back σ g := zI_zI _ 1029 _ _
theorem sgX1_back_rzI1027 {σ : Sto} {w0 : Int32} : (sgX1_back σ w0).1 1027 = σ.1 1027 := rfl
theorem sgX1_back_rzI1029 {σ : Sto} {w0 : Int32} : (sgX1_back σ w0).1 1029 = w0 := rfl
abbrev rmX1_back : Room := { frames := 0, cells := 0, slots := 0, locals := 0 }
set_option maxHeartbeats 4000000 in
theorem wkX1_back {r_ : Int32} {w_zI1029 : Int32} (E : EN p s m args meth c0 RX1 cX1_back 1 (Option.some Jvm.ClassFile.FieldType.int)) (hX : KX D G ad A s s.heap) (hD : XD dsc nr nw nu) (hA : ∀ q, PA dsc ad s.heap.size q → A q) (hf : xo_X1_back (σ.1 1027) (σ.1 1029) = some (r_, w_zI1029)) (hQ : Q = MQ below (va_G1 (some (.int r_)) (fun t => PIC D clsA G dsc ad (sgX1_back σ w_zI1029) t.heap) A) args s 0 0 A) (hP : PIC D clsA G dsc ad σ H) (hS : va_S A s.heap H locs) (hl : lv_has ls 1 [(0, .ref (ad 1000))]) : W p l e rmX1_back s m args below meth c0 H locs 0 0 Q (F0 m 0 ls []) := by
  obtain ⟨⟨hx, hb, hml, hown, hts⟩, hr, hlk⟩ := id E
  have hP := hP.to (sgX1_back_self σ).symm
  unfold xo_X1_back at hf
  refine lv_aload_n hx hb dX1_back_0 rfl (lv_at hl 0 rfl) ?_
  refine gx_X1_168_1000 (v := (σ.1 1027)) E hX hD hP sgX1_back_rzI1027 dX1_back_1 ?_
  refine lv_if_eq (tgt := 14) hx hb dX1_back_4 (by decide) (fun c1 => ?_) (fun c1 => ?_)
  · have hf := ifT c1 hf
    refine lv_iconst hx hb dX1_back_14 ic_m1 ?_
    cases hf
    rw [hQ]; exact g_iret hx hb hr hlk hP hS dX1_back_15
  · have hf := ifF c1 hf
    refine lv_aload_n hx hb dX1_back_7 rfl (lv_at hl 0 rfl) ?_
    refine gx_X1_452_1000 (v := (σ.1 1029)) E hX hD hP sgX1_back_rzI1029 dX1_back_8 ?_
    refine lv_if_ne (tgt := 16) hx hb dX1_back_11 (by decide) (fun c2 => ?_) (fun c2 => ?_)
    · have hf := ifF c2 hf
      refine lv_aload_n hx hb dX1_back_16 rfl (lv_at hl 0 rfl) ?_
      refine lv_dup hx hb dX1_back_17 rfl ?_
      refine gx_X1_452_1000 (v := (σ.1 1029)) E hX hD hP sgX1_back_rzI1029 dX1_back_18 ?_
      refine lv_iconst hx hb dX1_back_21 ic_1 ?_
      refine lv_isub hx hb dX1_back_22 ?_
      obtain ⟨v3, hv3, hf⟩ := bdP hf
      refine nm_i (Option.some.inj hv3) ?_
      refine ux_X1_452_1000 E hX hD hP hS (hA _ (PA_c (hD.1 _ _ dX_1000))) sgX1_back_zI1029 dX1_back_23 (fun H locs hP hS => ?_)
      refine lv_aload_n hx hb dX1_back_26 rfl (lv_at hl 0 rfl) ?_
      refine gx_X1_452_1000 (v := v3) E hX hD hP sgX1_back_rzI1029 dX1_back_27 ?_
      cases hf
      rw [hQ]; exact g_iret hx hb hr hlk hP hS dX1_back_30
    · have hf := ifT c2 hf
      refine lv_iconst hx hb dX1_back_14 ic_m1 ?_
      cases hf
      rw [hQ]; exact g_iret hx hb hr hlk hP hS dX1_back_15
theorem kxX1_back (l : Launch) (D : va_G) (G : Nat → ClassId) {dsc : Nat → Option Dsc} {ad : Nat → Nat} {σ : Sto} {nr nw nu : Nat} (hD : XD dsc nr nw nu) {r_ : Int32} {w_zI1029 : Int32} {z_X_isWalking : Int32} (e_zI1027 : σ.1 1027 = z_X_isWalking) {z_X_steps : Int32} (e_zI1029 : σ.1 1029 = z_X_steps) (hf : xo_X1_back z_X_isWalking z_X_steps = some (r_, w_zI1029)) : CtG l D G dsc ad yX1_back (ws_ yX1_back cX1_back 1 (Option.some Jvm.ClassFile.FieldType.int)) rmX1_back [.ref (ad 1000)] σ (some (.int r_)) (zI σ 1029 w_zI1029) := by
  subst e_zI1027
  subst e_zI1029
  exact p_ctG (by decide +kernel) (Nat.le_of_ble_eq_true rfl) (fun p e s m below meth c0 ls A E hP hX hA hS hl => wkX1_back E hX hD hA hf rfl hP hS hl)
theorem gx_X3_44_2000 {v : Int32} (E : EN p s m args meth c0 RX3 cc nL ret) (hX : KX D G ad A s s.heap) (hD : XD dsc nr nw nu) (hP : PIC D clsA G dsc ad σ H) (hv : σ.1 2012 = v) (hdg : decode cc pc = .ok (.getfield 44, 3)) (kk : W p l e R s m args below meth c0 H locs cells slots Q (F0 m (pc + 3) ls (.int v :: rest))) : W p l e R s m args below meth c0 H locs cells slots Q (F0 m pc ls (.ref (ad 2000) :: rest)) :=
  p_get E.1.1 E.1.2.1 E.1.2.2.2.2 in_X3 E.1.2.2.2.1 hX.1 hP (hD.1 _ _ dX_2000) rfl 12 (by decide) (E.1.2.2.2.2 _ q275) (fun _ h => h) rfl (congrArg Value.int hv) hdg kk
theorem gx_X3_48_2000 {v : Int32} (E : EN p s m args meth c0 RX3 cc nL ret) (hX : KX D G ad A s s.heap) (hD : XD dsc nr nw nu) (hP : PIC D clsA G dsc ad σ H) (hv : σ.1 2013 = v) (hdg : decode cc pc = .ok (.getfield 48, 3)) (kk : W p l e R s m args below meth c0 H locs cells slots Q (F0 m (pc + 3) ls (.int v :: rest))) : W p l e R s m args below meth c0 H locs cells slots Q (F0 m pc ls (.ref (ad 2000) :: rest)) :=
  p_get E.1.1 E.1.2.1 E.1.2.2.2.2 in_X3 E.1.2.2.2.1 hX.1 hP (hD.1 _ _ dX_2000) rfl 13 (by decide) (E.1.2.2.2.2 _ q280) (fun _ h => h) rfl (congrArg Value.int hv) hdg kk
/-! X3_isWhole ()Z -/
abbrev rmX3_isWhole : Room := { frames := 0, cells := 0, slots := 0, locals := 0 }
set_option maxHeartbeats 4000000 in
theorem wkX3_isWhole {r_ : Int32} (E : EN p s m args meth c0 RX3 cX3_isWhole 1 (Option.some Jvm.ClassFile.FieldType.boolean)) (hX : KX D G ad A s s.heap) (hD : XD dsc nr nw nu) (hA : ∀ q, PA dsc ad s.heap.size q → A q) (hf : xo_X3_isWhole (σ.1 2012) (σ.1 2013) = some r_) (hQ : Q = MQ below (va_G1 (some (.int r_)) (fun t => PIC D clsA G dsc ad σ t.heap) A) args s 0 0 A) (hP : PIC D clsA G dsc ad σ H) (hS : va_S A s.heap H locs) (hl : lv_has ls 1 [(0, .ref (ad 2000))]) : W p l e rmX3_isWhole s m args below meth c0 H locs 0 0 Q (F0 m 0 ls []) := by
  obtain ⟨⟨hx, hb, hml, hown, hts⟩, hr, hlk⟩ := id E
  unfold xo_X3_isWhole at hf
  refine lv_aload_n hx hb dX3_isWhole_0 rfl (lv_at hl 0 rfl) ?_
  refine gx_X3_44_2000 (v := (σ.1 2012)) E hX hD hP rfl dX3_isWhole_1 ?_
  refine lv_iconst hx hb dX3_isWhole_4 ic_m1 ?_
  have J20 : xo_X3_isWhole_J20 = some r_ → ∀ (H : Heap) (locs : List Loc), PIC D clsA G dsc ad σ H → va_S A s.heap H locs → ∀ (ls : Array Slot), lv_has ls 1 [] → W p l e rmX3_isWhole s m args below meth c0 H locs 0 0 Q (F0 m 20 ls []) := by
    intro  hf H locs hP hS ls hl
    unfold xo_X3_isWhole_J20 at hf
    refine lv_iconst hx hb dX3_isWhole_20 ic_0 ?_
    cases hf
    rw [hQ]; exact g_nret hx hb hr hlk hP hS rfl dX3_isWhole_21
  refine lv_icmp_eq (tgt := 20) hx hb dX3_isWhole_5 (by decide) (fun c1 => ?_) (fun c1 => ?_)
  · have hf := ifT c1 hf
    exact J20  hf H locs hP hS ls (lv_sub hl [] rfl)
  · have hf := ifF c1 hf
    refine lv_aload_n hx hb dX3_isWhole_8 rfl (lv_at hl 0 rfl) ?_
    refine gx_X3_48_2000 (v := (σ.1 2013)) E hX hD hP rfl dX3_isWhole_9 ?_
    refine lv_iconst hx hb dX3_isWhole_12 ic_m1 ?_
    refine lv_icmp_eq (tgt := 20) hx hb dX3_isWhole_13 (by decide) (fun c2 => ?_) (fun c2 => ?_)
    · have hf := ifT c2 hf
      exact J20  hf H locs hP hS ls (lv_sub hl [] rfl)
    · have hf := ifF c2 hf
      refine lv_iconst hx hb dX3_isWhole_16 ic_1 ?_
      refine lv_goto (tgt := 21) hx hb dX3_isWhole_17 (by decide) ?_
      cases hf
      rw [hQ]; exact g_nret hx hb hr hlk hP hS rfl dX3_isWhole_21
theorem kxX3_isWhole (l : Launch) (D : va_G) (G : Nat → ClassId) {dsc : Nat → Option Dsc} {ad : Nat → Nat} {σ : Sto} {nr nw nu : Nat} (hD : XD dsc nr nw nu) {r_ : Int32} {z_L_from : Int32} (e_zI2012 : σ.1 2012 = z_L_from) {z_L_to : Int32} (e_zI2013 : σ.1 2013 = z_L_to) (hf : xo_X3_isWhole z_L_from z_L_to = some r_) : CtG l D G dsc ad yX3_isWhole (ws_ yX3_isWhole cX3_isWhole 1 (Option.some Jvm.ClassFile.FieldType.boolean)) rmX3_isWhole [.ref (ad 2000)] σ (some (.int r_)) σ := by
  subst e_zI2012
  subst e_zI2013
  exact p_ctG (by decide +kernel) (Nat.le_of_ble_eq_true rfl) (fun p e s m below meth c0 ls A E hP hX hA hS hl => wkX3_isWhole E hX hD hA hf rfl hP hS hl)
theorem cx_X1_231_X3_isWhole {rm : Room} {σ1 : Sto} {r : Int32} (E : EN p s m args meth c0 RX1 cc nL ret) (hX : KX D G ad A s s.heap) (hD : XD dsc nr nw nu) (hP : PIC D clsA G dsc ad σ H) (hS : va_S A s.heap H locs) (hA : ∀ q, PA dsc ad s.heap.size q → A q) (hM : CtG l D G dsc ad yX3_isWhole (ws_ yX3_isWhole cX3_isWhole 1 (Option.some Jvm.ClassFile.FieldType.boolean)) rm [.ref (ad 2000)] σ (some (.int r)) σ1) (hz : rm.cells = 0 ∧ rm.slots = 0) (hR : rm.frames + 1 ≤ R.frames ∧ 8 + (1 + 11) + rm.locals ≤ R.locals) (hcs : cells ≤ R.cells ∧ slots ≤ R.slots) (hsz : ls.size = nL) (hW : (rest.map fun v => v.category).sum ≤ 8) (hdg : decode cc pc = .ok (.invokevirtual 231, 3)) (kk : ∀ (H1 : Heap) (locs1 : List Loc), PIC D clsA G dsc ad σ1 H1 → va_S A s.heap H1 locs1 → W p l e R s m args below meth c0 H1 locs1 cells slots Q (F0 m (pc + 3) ls (.int r :: rest))) : W p l e R s m args below meth c0 H locs cells slots Q (F0 m pc ls (.ref (ad 2000) :: rest)) :=
  p_gV (As := []) (rest := rest) E.1 hX hP hS hA hM (cwV 0 E.1.2.2.2.2 (lw_V q1040 q1041 q1042 q126 q1043) rfl hz.1 hz.2 (by decide +kernel) hR) (hD.1 _ _ dX_2000) rfl rfl rfl hsz rfl hW hdg hcs kk
theorem cx_X1_197_J2_get_Ld {rm : Room} {σ1 : Sto} {x1 : Int32} {r : Int32} (E : EN p s m args meth c0 RX1 cc nL ret) (hX : KX D G ad A s s.heap) (hD : XD dsc nr nw nu) (hP : PIC D clsA G dsc ad σ H) (hS : va_S A s.heap H locs) (hA : ∀ q, PA dsc ad s.heap.size q → A q) (hM : CtG l D G dsc ad yJ2_get (ws_ yJ2_get cJ2_get 2 (Option.some (Jvm.ClassFile.FieldType.object "java/lang/Object"))) rm [.ref (ad 2025), .int x1] σ (some (va_rf (drf ad 6000 r))) σ1) (hz : rm.cells = 0 ∧ rm.slots = 0) (hR : rm.frames + 1 ≤ R.frames ∧ 8 + (2 + 11) + rm.locals ≤ R.locals) (hcs : cells ≤ R.cells ∧ slots ≤ R.slots) (hsz : ls.size = nL) (hW : (rest.map fun v => v.category).sum ≤ 8) (hdg : decode cc pc = .ok (.invokevirtual 197, 3)) (kk : ∀ (H1 : Heap) (locs1 : List Loc), PIC D clsA G dsc ad σ1 H1 → va_S A s.heap H1 locs1 → W p l e R s m args below meth c0 H1 locs1 cells slots Q (F0 m (pc + 3) ls (va_rf (drf ad 6000 r) :: rest))) : W p l e R s m args below meth c0 H locs cells slots Q (F0 m pc ls (.int x1 :: .ref (ad 2025) :: rest)) :=
  p_gV (As := [.int x1]) (rest := rest) E.1 hX hP hS hA hM (cwV 1 E.1.2.2.2.2 (lw_V q1468 q1011 q1012 q129 q1013) rfl hz.1 hz.2 (by decide +kernel) hR) (hD.1 _ _ dX_2025) rfl rfl rfl hsz rfl hW hdg hcs kk
theorem gp_X1_212_R {v h : Int32} {f : Nat → Int32} (E : EN p s m args meth c0 RX1 cc nL ret) (hX : KX D G ad A s s.heap) (hD : XD dsc nr nw nu) (hP : PIC D clsA G dsc ad σ H) (hf : (fun k => σ.1 (6000 + 16 * k + 3)) = f) (hv : rdI f nr v = some h) (hdg : decode cc pc = .ok (.getfield 212, 3)) (kk : W p l e R s m args below meth c0 H locs cells slots Q (F0 m (pc + 3) ls (.int h :: rest))) : W p l e R s m args below meth c0 H locs cells slots Q (F0 m pc ls (va_rf (drf ad 6000 v) :: rest)) := by
  subst hf
  obtain ⟨h0, h1, h2⟩ := pool_ok hv
  exact p_nn h0 (p_getN E.1.1 E.1.2.1 E.1.2.2.2.2 in_X18 E.1.2.2.2.1 hX.1 hP (hD.2.1 _ h1) rfl 3 (by decide) (hX.2.1.1 _ q832 rfl) (fun _ h => h) rfl (congrArg Value.int h2) hdg kk)
theorem gx_X1_444_2000 {v : Int32} (E : EN p s m args meth c0 RX1 cc nL ret) (hX : KX D G ad A s s.heap) (hD : XD dsc nr nw nu) (hP : PIC D clsA G dsc ad σ H) (hv : σ.1 2009 = v) (hdg : decode cc pc = .ok (.getfield 444, 3)) (kk : W p l e R s m args below meth c0 H locs cells slots Q (F0 m (pc + 3) ls (.int v :: rest))) : W p l e R s m args below meth c0 H locs cells slots Q (F0 m pc ls (.ref (ad 2000) :: rest)) :=
  p_getN E.1.1 E.1.2.1 E.1.2.2.2.2 in_X3 E.1.2.2.2.1 hX.1 hP (hD.1 _ _ dX_2000) rfl 9 (by decide) (hX.2.1.1 _ q271 rfl) (fun _ h => h) rfl (congrArg Value.int hv) hdg kk
theorem gx_X1_447_2000 (E : EN p s m args meth c0 RX1 cc nL ret) (hX : KX D G ad A s s.heap) (hD : XD dsc nr nw nu) (hP : PIC D clsA G dsc ad σ H) (hdg : decode cc pc = .ok (.getfield 447, 3)) (kk : W p l e R s m args below meth c0 H locs cells slots Q (F0 m (pc + 3) ls (.ref (ad 2042) :: rest))) : W p l e R s m args below meth c0 H locs cells slots Q (F0 m pc ls (.ref (ad 2000) :: rest)) :=
  p_getN E.1.1 E.1.2.1 E.1.2.2.2.2 in_X3 E.1.2.2.2.1 hX.1 hP (hD.1 _ _ dX_2000) rfl 5 (by decide) (hX.2.1.1 _ q258 rfl) (fun _ h => h) rfl rfl hdg kk
theorem gp_X1_215_R {v h : Int32} {f : Nat → Int32} (E : EN p s m args meth c0 RX1 cc nL ret) (hX : KX D G ad A s s.heap) (hD : XD dsc nr nw nu) (hP : PIC D clsA G dsc ad σ H) (hf : (fun k => σ.1 (6000 + 16 * k + 4)) = f) (hv : rdI f nr v = some h) (hdg : decode cc pc = .ok (.getfield 215, 3)) (kk : W p l e R s m args below meth c0 H locs cells slots Q (F0 m (pc + 3) ls (.int h :: rest))) : W p l e R s m args below meth c0 H locs cells slots Q (F0 m pc ls (va_rf (drf ad 6000 v) :: rest)) := by
  subst hf
  obtain ⟨h0, h1, h2⟩ := pool_ok hv
  exact p_nn h0 (p_getN E.1.1 E.1.2.1 E.1.2.2.2.2 in_X18 E.1.2.2.2.1 hX.1 hP (hD.2.1 _ h1) rfl 4 (by decide) (hX.2.1.1 _ q836 rfl) (fun _ h => h) rfl (congrArg Value.int h2) hdg kk)
theorem ux_X1_168_1000 {v : Int32} {σ1 : Sto} (E : EN p s m args meth c0 RX1 cc nL ret) (hX : KX D G ad A s s.heap) (hD : XD dsc nr nw nu) (hP : PIC D clsA G dsc ad σ H) (hS : va_S A s.heap H locs) (hA : A (ad 1000)) (hz : narrow .boolean (.int v) = .int v) (hz2 : fits .boolean (.int v) = true) (hσ : zI σ 1027 v = σ1) (hdg : decode cc pc = .ok (.putfield 168, 3)) (kk : ∀ (H1 : Heap) (locs1 : List Loc), PIC D clsA G dsc ad σ1 H1 → va_S A s.heap H1 locs1 → W p l e R s m args below meth c0 H1 locs1 cells slots Q (F0 m (pc + 3) ls rest)) : W p l e R s m args below meth c0 H locs cells slots Q (F0 m pc ls (.int v :: .ref (ad 1000) :: rest)) :=
  p_puti2 E.1.1 E.1.2.1 E.1.2.2.2.2 in_X1 tyX1 tyX1_ok E.1.2.2.2.1 hX.1 hP hS hA (hD.1 _ _ dX_1000) rfl 27 (by decide) (by decide +kernel) (E.1.2.2.2.2 _ q539) (fun _ h => h) rfl rfl hz hz2 rfl hσ hdg kk
theorem ux_X1_450_1000 {v : Int32} {σ1 : Sto} (E : EN p s m args meth c0 RX1 cc nL ret) (hX : KX D G ad A s s.heap) (hD : XD dsc nr nw nu) (hP : PIC D clsA G dsc ad σ H) (hS : va_S A s.heap H locs) (hA : A (ad 1000)) (hσ : zI σ 1028 v = σ1) (hdg : decode cc pc = .ok (.putfield 450, 3)) (kk : ∀ (H1 : Heap) (locs1 : List Loc), PIC D clsA G dsc ad σ1 H1 → va_S A s.heap H1 locs1 → W p l e R s m args below meth c0 H1 locs1 cells slots Q (F0 m (pc + 3) ls rest)) : W p l e R s m args below meth c0 H locs cells slots Q (F0 m pc ls (.int v :: .ref (ad 1000) :: rest)) :=
  p_puti2 E.1.1 E.1.2.1 E.1.2.2.2.2 in_X1 tyX1 tyX1_ok E.1.2.2.2.1 hX.1 hP hS hA (hD.1 _ _ dX_1000) rfl 28 (by decide) (by decide +kernel) (E.1.2.2.2.2 _ q540) (fun _ h => h) rfl rfl rfl rfl rfl hσ hdg kk
theorem gx_X1_128_1000 (E : EN p s m args meth c0 RX1 cc nL ret) (hX : KX D G ad A s s.heap) (hD : XD dsc nr nw nu) (hP : PIC D clsA G dsc ad σ H) (hdg : decode cc pc = .ok (.getfield 128, 3)) (kk : W p l e R s m args below meth c0 H locs cells slots Q (F0 m (pc + 3) ls (.ref (ad 1130) :: rest))) : W p l e R s m args below meth c0 H locs cells slots Q (F0 m pc ls (.ref (ad 1000) :: rest)) :=
  p_get E.1.1 E.1.2.1 E.1.2.2.2.2 in_X1 E.1.2.2.2.1 hX.1 hP (hD.1 _ _ dX_1000) rfl 30 (by decide) (E.1.2.2.2.2 _ q542) (fun _ h => h) rfl rfl hdg kk
theorem gx_X1_131_1000 (E : EN p s m args meth c0 RX1 cc nL ret) (hX : KX D G ad A s s.heap) (hD : XD dsc nr nw nu) (hP : PIC D clsA G dsc ad σ H) (hdg : decode cc pc = .ok (.getfield 131, 3)) (kk : W p l e R s m args below meth c0 H locs cells slots Q (F0 m (pc + 3) ls (.ref (ad 1131) :: rest))) : W p l e R s m args below meth c0 H locs cells slots Q (F0 m pc ls (.ref (ad 1000) :: rest)) :=
  p_get E.1.1 E.1.2.1 E.1.2.2.2.2 in_X1 E.1.2.2.2.1 hX.1 hP (hD.1 _ _ dX_1000) rfl 31 (by decide) (E.1.2.2.2.2 _ q543) (fun _ h => h) rfl rfl hdg kk
theorem gx_X1_134_1000 (E : EN p s m args meth c0 RX1 cc nL ret) (hX : KX D G ad A s s.heap) (hD : XD dsc nr nw nu) (hP : PIC D clsA G dsc ad σ H) (hdg : decode cc pc = .ok (.getfield 134, 3)) (kk : W p l e R s m args below meth c0 H locs cells slots Q (F0 m (pc + 3) ls (.ref (ad 1132) :: rest))) : W p l e R s m args below meth c0 H locs cells slots Q (F0 m pc ls (.ref (ad 1000) :: rest)) :=
  p_get E.1.1 E.1.2.1 E.1.2.2.2.2 in_X1 E.1.2.2.2.1 hX.1 hP (hD.1 _ _ dX_1000) rfl 32 (by decide) (E.1.2.2.2.2 _ q544) (fun _ h => h) rfl rfl hdg kk
theorem gx_X1_450_1000 {v : Int32} (E : EN p s m args meth c0 RX1 cc nL ret) (hX : KX D G ad A s s.heap) (hD : XD dsc nr nw nu) (hP : PIC D clsA G dsc ad σ H) (hv : σ.1 1028 = v) (hdg : decode cc pc = .ok (.getfield 450, 3)) (kk : W p l e R s m args below meth c0 H locs cells slots Q (F0 m (pc + 3) ls (.int v :: rest))) : W p l e R s m args below meth c0 H locs cells slots Q (F0 m pc ls (.ref (ad 1000) :: rest)) :=
  p_get E.1.1 E.1.2.1 E.1.2.2.2.2 in_X1 E.1.2.2.2.1 hX.1 hP (hD.1 _ _ dX_1000) rfl 28 (by decide) (E.1.2.2.2.2 _ q540) (fun _ h => h) rfl (congrArg Value.int hv) hdg kk
theorem cx_X1_377_X1_seeing {rm : Room} {σ1 : Sto} {x1 : Int32} {x2 : Int32} {x3 : Int32} {r : Int32} (E : EN p s m args meth c0 RX1 cc nL ret) (hX : KX D G ad A s s.heap) (hD : XD dsc nr nw nu) (hP : PIC D clsA G dsc ad σ H) (hS : va_S A s.heap H locs) (hA : ∀ q, PA dsc ad s.heap.size q → A q) (hM : CtG l D G dsc ad yX1_seeing (ws_ yX1_seeing cX1_seeing 6 (Option.some Jvm.ClassFile.FieldType.int)) rm [.ref (ad 1000), .int x1, .int x2, .int x3] σ (some (.int r)) σ1) (hz : rm.cells = 0 ∧ rm.slots = 0) (hR : rm.frames + 1 ≤ R.frames ∧ 8 + (6 + 11) + rm.locals ≤ R.locals) (hcs : cells ≤ R.cells ∧ slots ≤ R.slots) (hsz : ls.size = nL) (hW : (rest.map fun v => v.category).sum ≤ 8) (hdg : decode cc pc = .ok (.invokevirtual 377, 3)) (kk : ∀ (H1 : Heap) (locs1 : List Loc), PIC D clsA G dsc ad σ1 H1 → va_S A s.heap H1 locs1 → W p l e R s m args below meth c0 H1 locs1 cells slots Q (F0 m (pc + 3) ls (.int r :: rest))) : W p l e R s m args below meth c0 H locs cells slots Q (F0 m pc ls (.int x3 :: .int x2 :: .int x1 :: .ref (ad 1000) :: rest)) :=
  p_gV (As := [.int x1, .int x2, .int x3]) (rest := rest) E.1 hX hP hS hA hM (cwV 3 E.1.2.2.2.2 (lw_V q1441 q1286 qs29 q124 q1287) rfl hz.1 hz.2 (by decide +kernel) hR) (hD.1 _ _ dX_1000) rfl rfl rfl hsz rfl hW hdg hcs kk
/-! X1_begin (I)Z -/
def sgX1_begin (σ : Sto) (w0 : Int32) (w1 : Int32) (w2 : Int32) (w3 : Nat → Int32) (w4 : Nat → Int32) (w5 : Nat → Int32) : Sto := aI (aI (aI (zI (zI (zI σ 1027 w0) 1028 w1) 1029 w2) 1130 w3) 1131 w4) 1132 w5
theorem sgX1_begin_self (σ : Sto) : sgX1_begin σ (σ.1 1027) (σ.1 1028) (σ.1 1029) (σ.2.2.1 1130) (σ.2.2.1 1131) (σ.2.2.1 1132) = σ := by
  unfold sgX1_begin
  simp only [zI_self, zL_self, aI_self, aL_self]
theorem sgX1_begin_zI1027 {σ : Sto} {w0 : Int32} {w1 : Int32} {w2 : Int32} {w3 : Nat → Int32} {w4 : Nat → Int32} {w5 : Nat → Int32} {g : Int32} : zI (sgX1_begin σ w0 w1 w2 w3 w4 w5) 1027 g = sgX1_begin σ g w1 w2 w3 w4 w5 := (cm_zI_aI _ _ _ _ _).trans (congrArg (fun z => aI z 1132 w5) ((cm_zI_aI _ _ _ _ _).trans (congrArg (fun z => aI z 1131 w4) ((cm_zI_aI _ _ _ _ _).trans (congrArg (fun z => aI z 1130 w3) ((zI_comm _ (by decide) _ _).trans (congrArg (fun z => zI z 1029 w2) ((zI_comm _ (by decide) _ _).trans (congrArg (fun z => zI z 1028 w1) (zI_zI _ 1027 _ _))))))))))
theorem sgX1_begin_zI1028 {σ : Sto} {w0 : Int32} {w1 : Int32} {w2 : Int32} {w3 : Nat → Int32} {w4 : Nat → Int32} {w5 : Nat → Int32} {g : Int32} : zI (sgX1_begin σ w0 w1 w2 w3 w4 w5) 1028 g = sgX1_begin σ w0 g w2 w3 w4 w5 := (cm_zI_aI _ _ _ _ _).trans (congrArg (fun z => aI z 1132 w5) ((cm_zI_aI _ _ _ _ _).trans (congrArg (fun z => aI z 1131 w4) ((cm_zI_aI _ _ _ _ _).trans (congrArg (fun z => aI z 1130 w3) ((zI_comm _ (by decide) _ _).trans (congrArg (fun z => zI z 1029 w2) (zI_zI _ 1028 _ _))))))))
theorem sgX1_begin_zI1029 {σ : Sto} {w0 : Int32} {w1 : Int32} {w2 : Int32} {w3 : Nat → Int32} {w4 : Nat → Int32} {w5 : Nat → Int32} {g : Int32} : zI (sgX1_begin σ w0 w1 w2 w3 w4 w5) 1029 g = sgX1_begin σ w0 w1 g w3 w4 w5 := (cm_zI_aI _ _ _ _ _).trans (congrArg (fun z => aI z 1132 w5) ((cm_zI_aI _ _ _ _ _).trans (congrArg (fun z => aI z 1131 w4) ((cm_zI_aI _ _ _ _ _).trans (congrArg (fun z => aI z 1130 w3) (zI_zI _ 1029 _ _))))))
theorem sgX1_begin_aI1130 {σ : Sto} {w0 : Int32} {w1 : Int32} {w2 : Int32} {w3 : Nat → Int32} {w4 : Nat → Int32} {w5 : Nat → Int32} {g : Nat → Int32} : aI (sgX1_begin σ w0 w1 w2 w3 w4 w5) 1130 g = sgX1_begin σ w0 w1 w2 g w4 w5 := (aI_comm _ (by decide) _ _).trans (congrArg (fun z => aI z 1132 w5) ((aI_comm _ (by decide) _ _).trans (congrArg (fun z => aI z 1131 w4) (aI_aI _ 1130 _ _))))
theorem sgX1_begin_aI1131 {σ : Sto} {w0 : Int32} {w1 : Int32} {w2 : Int32} {w3 : Nat → Int32} {w4 : Nat → Int32} {w5 : Nat → Int32} {g : Nat → Int32} : aI (sgX1_begin σ w0 w1 w2 w3 w4 w5) 1131 g = sgX1_begin σ w0 w1 w2 w3 g w5 := (aI_comm _ (by decide) _ _).trans (congrArg (fun z => aI z 1132 w5) (aI_aI _ 1131 _ _))
theorem sgX1_begin_aI1132 {σ : Sto} {w0 : Int32} {w1 : Int32} {w2 : Int32} {w3 : Nat → Int32} {w4 : Nat → Int32} {w5 : Nat → Int32} {g : Nat → Int32} : aI (sgX1_begin σ w0 w1 w2 w3 w4 w5) 1132 g = sgX1_begin σ w0 w1 w2 w3 w4 g := aI_aI _ 1132 _ _
theorem sgX1_begin_rzI1027 {σ : Sto} {w0 : Int32} {w1 : Int32} {w2 : Int32} {w3 : Nat → Int32} {w4 : Nat → Int32} {w5 : Nat → Int32} : (sgX1_begin σ w0 w1 w2 w3 w4 w5).1 1027 = w0 := rfl
theorem sgX1_begin_rzI1028 {σ : Sto} {w0 : Int32} {w1 : Int32} {w2 : Int32} {w3 : Nat → Int32} {w4 : Nat → Int32} {w5 : Nat → Int32} : (sgX1_begin σ w0 w1 w2 w3 w4 w5).1 1028 = w1 := rfl
theorem sgX1_begin_rzI1029 {σ : Sto} {w0 : Int32} {w1 : Int32} {w2 : Int32} {w3 : Nat → Int32} {w4 : Nat → Int32} {w5 : Nat → Int32} : (sgX1_begin σ w0 w1 w2 w3 w4 w5).1 1029 = w2 := rfl
theorem sgX1_begin_rzI2009 {σ : Sto} {w0 : Int32} {w1 : Int32} {w2 : Int32} {w3 : Nat → Int32} {w4 : Nat → Int32} {w5 : Nat → Int32} : (sgX1_begin σ w0 w1 w2 w3 w4 w5).1 2009 = σ.1 2009 := rfl
theorem sgX1_begin_rzI2012 {σ : Sto} {w0 : Int32} {w1 : Int32} {w2 : Int32} {w3 : Nat → Int32} {w4 : Nat → Int32} {w5 : Nat → Int32} : (sgX1_begin σ w0 w1 w2 w3 w4 w5).1 2012 = σ.1 2012 := rfl
theorem sgX1_begin_rzI2013 {σ : Sto} {w0 : Int32} {w1 : Int32} {w2 : Int32} {w3 : Nat → Int32} {w4 : Nat → Int32} {w5 : Nat → Int32} : (sgX1_begin σ w0 w1 w2 w3 w4 w5).1 2013 = σ.1 2013 := rfl
theorem sgX1_begin_rzI2027 {σ : Sto} {w0 : Int32} {w1 : Int32} {w2 : Int32} {w3 : Nat → Int32} {w4 : Nat → Int32} {w5 : Nat → Int32} : (sgX1_begin σ w0 w1 w2 w3 w4 w5).1 2027 = σ.1 2027 := rfl
theorem sgX1_begin_raI1130 {σ : Sto} {w0 : Int32} {w1 : Int32} {w2 : Int32} {w3 : Nat → Int32} {w4 : Nat → Int32} {w5 : Nat → Int32} : (sgX1_begin σ w0 w1 w2 w3 w4 w5).2.2.1 1130 = w3 := rfl
theorem sgX1_begin_raI1131 {σ : Sto} {w0 : Int32} {w1 : Int32} {w2 : Int32} {w3 : Nat → Int32} {w4 : Nat → Int32} {w5 : Nat → Int32} : (sgX1_begin σ w0 w1 w2 w3 w4 w5).2.2.1 1131 = w4 := rfl
theorem sgX1_begin_raI1132 {σ : Sto} {w0 : Int32} {w1 : Int32} {w2 : Int32} {w3 : Nat → Int32} {w4 : Nat → Int32} {w5 : Nat → Int32} : (sgX1_begin σ w0 w1 w2 w3 w4 w5).2.2.1 1132 = w5 := rfl
theorem sgX1_begin_raI1170 {σ : Sto} {w0 : Int32} {w1 : Int32} {w2 : Int32} {w3 : Nat → Int32} {w4 : Nat → Int32} {w5 : Nat → Int32} : (sgX1_begin σ w0 w1 w2 w3 w4 w5).2.2.1 1170 = σ.2.2.1 1170 := rfl
theorem sgX1_begin_raI2036 {σ : Sto} {w0 : Int32} {w1 : Int32} {w2 : Int32} {w3 : Nat → Int32} {w4 : Nat → Int32} {w5 : Nat → Int32} : (sgX1_begin σ w0 w1 w2 w3 w4 w5).2.2.1 2036 = σ.2.2.1 2036 := rfl
theorem sgX1_begin_raI2042 {σ : Sto} {w0 : Int32} {w1 : Int32} {w2 : Int32} {w3 : Nat → Int32} {w4 : Nat → Int32} {w5 : Nat → Int32} : (sgX1_begin σ w0 w1 w2 w3 w4 w5).2.2.1 2042 = σ.2.2.1 2042 := rfl
theorem sgX1_begin_raI2043 {σ : Sto} {w0 : Int32} {w1 : Int32} {w2 : Int32} {w3 : Nat → Int32} {w4 : Nat → Int32} {w5 : Nat → Int32} : (sgX1_begin σ w0 w1 w2 w3 w4 w5).2.2.1 2043 = σ.2.2.1 2043 := rfl
theorem sgX1_begin_rpR3 {σ : Sto} {w0 : Int32} {w1 : Int32} {w2 : Int32} {w3 : Nat → Int32} {w4 : Nat → Int32} {w5 : Nat → Int32} : (fun k => (sgX1_begin σ w0 w1 w2 w3 w4 w5).1 (6000 + 16 * k + 3)) = (fun k => σ.1 (6000 + 16 * k + 3)) := by
  funext k
  unfold sgX1_begin
  dsimp only [zI, zL, aI, aL]
  repeat rw [if_neg (by omega)]
theorem sgX1_begin_rpR4 {σ : Sto} {w0 : Int32} {w1 : Int32} {w2 : Int32} {w3 : Nat → Int32} {w4 : Nat → Int32} {w5 : Nat → Int32} : (fun k => (sgX1_begin σ w0 w1 w2 w3 w4 w5).1 (6000 + 16 * k + 4)) = (fun k => σ.1 (6000 + 16 * k + 4)) := by
  funext k
  unfold sgX1_begin
  dsimp only [zI, zL, aI, aL]
  repeat rw [if_neg (by omega)]
abbrev rmX1_begin : Room := { frames := 3, cells := 0, slots := 0, locals := 64 }
set_option maxHeartbeats 4000000 in
theorem wkX1_begin {x1 : Int32} {r_ : Int32} {w_zI1027 : Int32} {w_zI1028 : Int32} {w_zI1029 : Int32} {w_aI1130 : Nat → Int32} {w_aI1131 : Nat → Int32} {w_aI1132 : Nat → Int32} (E : EN p s m args meth c0 RX1 cX1_begin 6 (Option.some Jvm.ClassFile.FieldType.boolean)) (hX : KX D G ad A s s.heap) (hD : XD dsc nr nw nu) (hA : ∀ q, PA dsc ad s.heap.size q → A q) (hf : xo_X1_begin (σ.1 1027) (σ.1 1028) (σ.1 1029) (σ.1 2009) (σ.1 2012) (σ.1 2013) (σ.1 2027) (σ.2.2.1 1130) (σ.2.2.1 1131) (σ.2.2.1 1132) (σ.2.2.1 1170) (σ.2.2.1 2036) (σ.2.2.1 2042) (σ.2.2.1 2043) nr (fun k => σ.1 (6000 + 16 * k + 3)) (fun k => σ.1 (6000 + 16 * k + 4)) x1 = some (r_, w_zI1027, w_zI1028, w_zI1029, w_aI1130, w_aI1131, w_aI1132)) (hQ : Q = MQ below (va_G1 (some (.int r_)) (fun t => PIC D clsA G dsc ad (sgX1_begin σ w_zI1027 w_zI1028 w_zI1029 w_aI1130 w_aI1131 w_aI1132) t.heap) A) args s 0 0 A) (hP : PIC D clsA G dsc ad σ H) (hS : va_S A s.heap H locs) (hl : lv_has ls 6 [(0, .ref (ad 1000)), (1, .int x1)]) : W p l e rmX1_begin s m args below meth c0 H locs 0 0 Q (F0 m 0 ls []) := by
  obtain ⟨⟨hx, hb, hml, hown, hts⟩, hr, hlk⟩ := id E
  have hP := hP.to (sgX1_begin_self σ).symm
  unfold xo_X1_begin at hf
  refine lv_iload_n hx hb dX1_begin_0 rfl (lv_at hl 1 rfl) ?_
  refine lv_if_lt (tgt := 14) hx hb dX1_begin_1 (by decide) (fun c1 => ?_) (fun c1 => ?_)
  · have hf := ifT c1 hf
    refine lv_iconst hx hb dX1_begin_14 ic_0 ?_
    cases hf
    rw [hQ]; exact g_nret hx hb hr hlk hP hS rfl dX1_begin_15
  · have hf := ifF c1 hf
    refine lv_aload_n hx hb dX1_begin_4 rfl (lv_at hl 0 rfl) ?_
    refine gx_X1_33_1000 E hX hD hP dX1_begin_5 ?_
    obtain ⟨v2, u3, hf⟩ := bdP hf
    refine cx_X1_231_X3_isWhole E hX hD hP hS hA (kxX3_isWhole l D G hD sgX1_begin_rzI2012 sgX1_begin_rzI2013 u3) ⟨rfl, rfl⟩ ⟨Nat.le_of_ble_eq_true rfl, Nat.le_of_ble_eq_true rfl⟩ ⟨Nat.zero_le _, Nat.zero_le _⟩ hl.1 (Nat.le_of_ble_eq_true rfl) dX1_begin_8 (fun H locs hP hS => ?_)
    refine lv_if_ne (tgt := 16) hx hb dX1_begin_11 (by decide) (fun c4 => ?_) (fun c4 => ?_)
    · have hf := ifF c4 hf
      refine lv_iload_n hx hb dX1_begin_16 rfl (lv_at hl 1 rfl) ?_
      refine lv_istore_n (lv' := [(2, .int x1), (0, .ref (ad 1000)), (1, .int x1)]) hx hb dX1_begin_17 rfl hl (by decide) rfl (fun ls hl => ?_)
      refine lv_iconst hx hb dX1_begin_18 ic_0 ?_
      refine lv_istore_n (lv' := [(3, .int 0), (2, .int x1), (0, .ref (ad 1000)), (1, .int x1)]) hx hb dX1_begin_19 rfl hl (by decide) rfl (fun ls hl => ?_)
      refine lv_iconst hx hb dX1_begin_20 ic_0 ?_
      refine lv_istore (lv' := [(4, .int 0), (3, .int 0), (2, .int x1), (0, .ref (ad 1000)), (1, .int x1)]) hx hb dX1_begin_21 hl (by decide) rfl (fun ls hl => ?_)
      have LP23 : ∀ (st23 : Int32 × Int32 × Int32) (ex23 : (Int32 × Int32)), loop (xo_X1_begin_L23 (σ.1 2027) (σ.2.2.1 2036) nr (fun k => σ.1 (6000 + 16 * k + 3))) st23 = some ex23 → ∀ (H : Heap) (locs : List Loc), PIC D clsA G dsc ad (sgX1_begin σ (σ.1 1027) (σ.1 1028) (σ.1 1029) (σ.2.2.1 1130) (σ.2.2.1 1131) (σ.2.2.1 1132)) H → va_S A s.heap H locs → ∀ (ls : Array Slot), lv_has ls 6 [(0, .ref (ad 1000)), (2, .int (st23.1)), (3, .int (st23.2.1)), (4, .int (st23.2.2))] → (∀ (y29 : Int32) (y30 : Int32), ex23 = (y29, y30) → ∀ (H : Heap) (locs : List Loc), PIC D clsA G dsc ad (sgX1_begin σ (σ.1 1027) (σ.1 1028) (σ.1 1029) (σ.2.2.1 1130) (σ.2.2.1 1131) (σ.2.2.1 1132)) H → va_S A s.heap H locs → ∀ (ls : Array Slot), lv_has ls 6 [(0, .ref (ad 1000)), (2, .int y29), (3, .int y30)] → W p l e rmX1_begin s m args below meth c0 H locs 0 0 Q (F0 m 121 ls [])) → W p l e rmX1_begin s m args below meth c0 H locs 0 0 Q (F0 m 23 ls []) := by
        refine loop_P (fun st23 ex23 o23 hf ih23 hx23 => ?_)
        obtain ⟨y5, y6, y7⟩ := st23
        intro H locs (hP : PIC D clsA G dsc ad (sgX1_begin σ (σ.1 1027) (σ.1 1028) (σ.1 1029) (σ.2.2.1 1130) (σ.2.2.1 1131) (σ.2.2.1 1132)) H) hS ls (hl : lv_has ls 6 [(0, .ref (ad 1000)), (2, .int y5), (3, .int y6), (4, .int y7)]) KE23_0
        dsimp only [xo_X1_begin_L23] at hf
        refine lv_iload hx hb dX1_begin_23 (lv_at hl 3 rfl) ?_
        refine lv_aload_n hx hb dX1_begin_25 rfl (lv_at hl 0 rfl) ?_
        refine gx_X1_33_1000 E hX hD hP dX1_begin_26 ?_
        refine gx_X1_246_2000 E hX hD hP dX1_begin_29 ?_
        obtain ⟨v8, u9, hf⟩ := bdP hf
        refine cx_X1_190_J2_size_Ld E hX hD hP hS hA (kxJ2_size_Ld l D G hD sgX1_begin_rzI2027 u9) ⟨rfl, rfl⟩ ⟨Nat.le_of_ble_eq_true rfl, Nat.le_of_ble_eq_true rfl⟩ ⟨Nat.zero_le _, Nat.zero_le _⟩ hl.1 (Nat.le_of_ble_eq_true rfl) dX1_begin_32 (fun H locs hP hS => ?_)
        refine lv_icmp_ge (tgt := 121) hx hb dX1_begin_35 (by decide) (fun c10 => ?_) (fun c10 => ?_)
        · have hf := ifT c10 hf
          exact KE23_0 _ _ (hx23 _ (Option.some.inj hf).symm).symm H locs hP hS ls (lv_sub hl [0, 1, 2] rfl)
        · have hf := ifF c10 hf
          refine lv_aload_n hx hb dX1_begin_38 rfl (lv_at hl 0 rfl) ?_
          refine gx_X1_33_1000 E hX hD hP dX1_begin_39 ?_
          refine gx_X1_246_2000 E hX hD hP dX1_begin_42 ?_
          refine lv_iload hx hb dX1_begin_45 (lv_at hl 3 rfl) ?_
          obtain ⟨v11, u12, hf⟩ := bdP hf
          refine cx_X1_197_J2_get_Ld E hX hD hP hS hA (kxJ2_get_Ld l D G hD sgX1_begin_rzI2027 sgX1_begin_raI2036 u12) ⟨rfl, rfl⟩ ⟨Nat.le_of_ble_eq_true rfl, Nat.le_of_ble_eq_true rfl⟩ ⟨Nat.zero_le _, Nat.zero_le _⟩ hl.1 (Nat.le_of_ble_eq_true rfl) dX1_begin_47 (fun H locs hP hS => ?_)
          obtain ⟨v13, hv13, hf⟩ := bdP hf
          refine p_castP (ci := 15) (q := (RX18, TX18, 7)) hx hb hX.1 hP hown (hts _ q1505) hv13 hD.2.1 rfl dX1_begin_50 ?_
          obtain ⟨v14, hv14, hf⟩ := bdP hf
          refine gp_X1_212_R E hX hD hP sgX1_begin_rpR3 hv14 dX1_begin_53 ?_
          have J115 : ∀ (y15 : Int32) (y16 : Int32), xo_X1_begin_J115 y7 y15 y16 = some o23 → ∀ (H : Heap) (locs : List Loc), PIC D clsA G dsc ad (sgX1_begin σ (σ.1 1027) (σ.1 1028) (σ.1 1029) (σ.2.2.1 1130) (σ.2.2.1 1131) (σ.2.2.1 1132)) H → va_S A s.heap H locs → ∀ (ls : Array Slot), lv_has ls 6 [(0, .ref (ad 1000)), (2, .int y15), (3, .int y16), (4, .int y7)] → W p l e rmX1_begin s m args below meth c0 H locs 0 0 Q (F0 m 115 ls []) := by
            intro y15 y16 hf H locs hP hS ls hl
            unfold xo_X1_begin_J115 at hf
            obtain ⟨v17, hv17, hf⟩ := bdP hf
            refine lv_iinc (v := v17) (lv' := [(4, .int v17), (0, .ref (ad 1000)), (2, .int y15), (3, .int y16)]) hx hb dX1_begin_115 hl (k := 3) rfl (Option.some.inj hv17) (by decide) rfl (fun ls hl => ?_)
            refine lv_goto (tgt := 23) hx hb dX1_begin_118 (by decide) ?_
            exact ih23 _ (Option.some.inj hf).symm H locs hP hS ls (lv_sub hl [1, 2, 3, 0] rfl) KE23_0
          refine lv_if_ne (tgt := 62) hx hb dX1_begin_56 (by decide) (fun c18 => ?_) (fun c18 => ?_)
          · have hf := ifF c18 hf
            refine lv_iload_n hx hb dX1_begin_62 rfl (lv_at hl 1 rfl) ?_
            refine lv_ldcw hx hb hown (hts _ q1523) dX1_begin_63 ?_
            refine lv_imul hx hb dX1_begin_66 ?_
            refine lv_sipush hx hb dX1_begin_67 sp_12345 ?_
            refine lv_iadd hx hb dX1_begin_70 ?_
            refine lv_ldcw hx hb hown (hts _ q1524) dX1_begin_71 ?_
            refine lv_iand hx hb dX1_begin_74 ?_
            obtain ⟨v19, hv19, hf⟩ := bdP hf
            refine nm_i (Option.some.inj hv19) ?_
            refine lv_istore_n (lv' := [(2, .int v19), (0, .ref (ad 1000)), (3, .int y6), (4, .int y7)]) hx hb dX1_begin_75 rfl hl (by decide) rfl (fun ls hl => ?_)
            refine lv_iload_n hx hb dX1_begin_76 rfl (lv_at hl 2 rfl) ?_
            refine lv_iload_n hx hb dX1_begin_77 rfl (lv_at hl 0 rfl) ?_
            refine lv_bipush hx hb dX1_begin_78 bp_16 ?_
            refine lv_ishr hx hb dX1_begin_80 ?_
            refine lv_bipush hx hb dX1_begin_81 bp_10 ?_
            obtain ⟨v20, hv20, hf⟩ := bdP hf
            refine lv_irem hx hb dX1_begin_83 (rmI_some hv20).1 ?_
            refine nm_i (rmI_some hv20).2 ?_
            refine lv_aload_n hx hb dX1_begin_84 rfl (lv_at hl 1 rfl) ?_
            refine gx_X1_33_1000 E hX hD hP dX1_begin_85 ?_
            refine gx_X1_246_2000 E hX hD hP dX1_begin_88 ?_
            refine lv_iload hx hb dX1_begin_91 (lv_at hl 3 rfl) ?_
            obtain ⟨v21, u22, hf⟩ := bdP hf
            refine cx_X1_197_J2_get_Ld E hX hD hP hS hA (kxJ2_get_Ld l D G hD sgX1_begin_rzI2027 sgX1_begin_raI2036 u22) ⟨rfl, rfl⟩ ⟨Nat.le_of_ble_eq_true rfl, Nat.le_of_ble_eq_true rfl⟩ ⟨Nat.zero_le _, Nat.zero_le _⟩ hl.1 (Nat.le_of_ble_eq_true rfl) dX1_begin_93 (fun H locs hP hS => ?_)
            obtain ⟨v23, hv23, hf⟩ := bdP hf
            refine p_castP (ci := 15) (q := (RX18, TX18, 7)) hx hb hX.1 hP hown (hts _ q1505) hv23 hD.2.1 rfl dX1_begin_96 ?_
            obtain ⟨v24, hv24, hf⟩ := bdP hf
            refine gp_X1_212_R E hX hD hP sgX1_begin_rpR3 hv24 dX1_begin_99 ?_
            have J113 : ∀ (k25 : Int32) (k26 : Int32), xo_X1_begin_J113 y7 v19 k25 k26 = some o23 → ∀ (H : Heap) (locs : List Loc), PIC D clsA G dsc ad (sgX1_begin σ (σ.1 1027) (σ.1 1028) (σ.1 1029) (σ.2.2.1 1130) (σ.2.2.1 1131) (σ.2.2.1 1132)) H → va_S A s.heap H locs → ∀ (ls : Array Slot), lv_has ls 6 [(0, .ref (ad 1000)), (2, .int v19), (4, .int y7)] → W p l e rmX1_begin s m args below meth c0 H locs 0 0 Q (F0 m 113 ls [.int k25, .int k26]) := by
              intro k25 k26 hf H locs hP hS ls hl
              unfold xo_X1_begin_J113 at hf
              refine lv_ior hx hb dX1_begin_113 ?_
              obtain ⟨v27, hv27, hf⟩ := bdP hf
              refine nm_i (Option.some.inj hv27) ?_
              refine lv_istore_n (lv' := [(3, .int v27), (0, .ref (ad 1000)), (2, .int v19), (4, .int y7)]) hx hb dX1_begin_114 rfl hl (by decide) rfl (fun ls hl => ?_)
              exact J115 v19 v27 hf H locs hP hS ls (lv_sub hl [1, 2, 0, 3] rfl)
            refine lv_icmp_ge (tgt := 112) hx hb dX1_begin_102 (by decide) (fun c28 => ?_) (fun c28 => ?_)
            · have hf := ifT c28 hf
              refine lv_iconst hx hb dX1_begin_112 ic_0 ?_
              exact J113 0 y6 hf H locs hP hS ls (lv_sub hl [1, 0, 3] rfl)
            · have hf := ifF c28 hf
              refine lv_iconst hx hb dX1_begin_105 ic_1 ?_
              refine lv_iload hx hb dX1_begin_106 (lv_at hl 3 rfl) ?_
              refine lv_ishl hx hb dX1_begin_108 ?_
              refine lv_goto (tgt := 113) hx hb dX1_begin_109 (by decide) ?_
              exact J113 (1 <<< (y7 &&& 31)) y6 hf H locs hP hS ls (lv_sub hl [1, 0, 3] rfl)
          · have hf := ifT c18 hf
            refine lv_goto (tgt := 115) hx hb dX1_begin_59 (by decide) ?_
            exact J115 y5 y6 hf H locs hP hS ls (lv_sub hl [0, 1, 2, 3] rfl)
      obtain ⟨ex23, hlp23, hf⟩ := bdP hf
      refine LP23 (x1, 0, 0) ex23 hlp23 H locs hP hS ls (lv_sub hl [3, 2, 1, 0] rfl) ?_
      intro y29 y30 hex23 H locs hP hS ls hl
      subst ex23
      dsimp only at hf
      refine lv_iconst hx hb dX1_begin_121 ic_0 ?_
      refine lv_istore (lv' := [(4, .int 0), (0, .ref (ad 1000)), (2, .int y29), (3, .int y30)]) hx hb dX1_begin_122 hl (by decide) rfl (fun ls hl => ?_)
      have LP124 : ∀ (st124 : Int32 × Int32 × Int32) (ex124 : (Int32)), loop (xo_X1_begin_L124 (σ.1 2009) (σ.1 2027) (σ.2.2.1 2036) (σ.2.2.1 2042) nr (fun k => σ.1 (6000 + 16 * k + 4))) st124 = some ex124 → ∀ (H : Heap) (locs : List Loc), PIC D clsA G dsc ad (sgX1_begin σ (σ.1 1027) (σ.1 1028) (σ.1 1029) (σ.2.2.1 1130) (σ.2.2.1 1131) (σ.2.2.1 1132)) H → va_S A s.heap H locs → ∀ (ls : Array Slot), lv_has ls 6 [(0, .ref (ad 1000)), (2, .int (st124.1)), (3, .int (st124.2.1)), (4, .int (st124.2.2))] → (∀ (y56 : Int32), ex124 = y56 → ∀ (H : Heap) (locs : List Loc), PIC D clsA G dsc ad (sgX1_begin σ (σ.1 1027) (σ.1 1028) (σ.1 1029) (σ.2.2.1 1130) (σ.2.2.1 1131) (σ.2.2.1 1132)) H → va_S A s.heap H locs → ∀ (ls : Array Slot), lv_has ls 6 [(0, .ref (ad 1000)), (3, .int y56)] → W p l e rmX1_begin s m args below meth c0 H locs 0 0 Q (F0 m 237 ls [])) → W p l e rmX1_begin s m args below meth c0 H locs 0 0 Q (F0 m 124 ls []) := by
        refine loop_P (fun st124 ex124 o124 hf ih124 hx124 => ?_)
        obtain ⟨y31, y32, y33⟩ := st124
        intro H locs (hP : PIC D clsA G dsc ad (sgX1_begin σ (σ.1 1027) (σ.1 1028) (σ.1 1029) (σ.2.2.1 1130) (σ.2.2.1 1131) (σ.2.2.1 1132)) H) hS ls (hl : lv_has ls 6 [(0, .ref (ad 1000)), (2, .int y31), (3, .int y32), (4, .int y33)]) KE124_0
        dsimp only [xo_X1_begin_L124] at hf
        refine lv_iload hx hb dX1_begin_124 (lv_at hl 3 rfl) ?_
        refine lv_aload_n hx hb dX1_begin_126 rfl (lv_at hl 0 rfl) ?_
        refine gx_X1_33_1000 E hX hD hP dX1_begin_127 ?_
        refine gx_X1_444_2000 (v := (σ.1 2009)) E hX hD hP sgX1_begin_rzI2009 dX1_begin_130 ?_
        refine lv_icmp_ge (tgt := 237) hx hb dX1_begin_133 (by decide) (fun c34 => ?_) (fun c34 => ?_)
        · have hf := ifT c34 hf
          exact KE124_0 _ (hx124 _ (Option.some.inj hf).symm).symm H locs hP hS ls (lv_sub hl [0, 2] rfl)
        · have hf := ifF c34 hf
          refine lv_iload_n hx hb dX1_begin_136 rfl (lv_at hl 1 rfl) ?_
          refine lv_ldcw hx hb hown (hts _ q1523) dX1_begin_137 ?_
          refine lv_imul hx hb dX1_begin_140 ?_
          refine lv_sipush hx hb dX1_begin_141 sp_12345 ?_
          refine lv_iadd hx hb dX1_begin_144 ?_
          refine lv_ldcw hx hb hown (hts _ q1524) dX1_begin_145 ?_
          refine lv_iand hx hb dX1_begin_148 ?_
          obtain ⟨v35, hv35, hf⟩ := bdP hf
          refine nm_i (Option.some.inj hv35) ?_
          refine lv_istore_n (lv' := [(2, .int v35), (0, .ref (ad 1000)), (3, .int y32), (4, .int y33)]) hx hb dX1_begin_149 rfl hl (by decide) rfl (fun ls hl => ?_)
          refine lv_iload_n hx hb dX1_begin_150 rfl (lv_at hl 0 rfl) ?_
          refine lv_bipush hx hb dX1_begin_151 bp_16 ?_
          refine lv_ishr hx hb dX1_begin_153 ?_
          refine lv_bipush hx hb dX1_begin_154 bp_10 ?_
          obtain ⟨v36, hv36, hf⟩ := bdP hf
          refine lv_irem hx hb dX1_begin_156 (rmI_some hv36).1 ?_
          refine nm_i (rmI_some hv36).2 ?_
          refine lv_aload_n hx hb dX1_begin_157 rfl (lv_at hl 1 rfl) ?_
          refine gx_X1_33_1000 E hX hD hP dX1_begin_158 ?_
          refine gx_X1_447_2000 E hX hD hP dX1_begin_161 ?_
          refine lv_iload hx hb dX1_begin_164 (lv_at hl 3 rfl) ?_
          obtain ⟨v37, hv37, hf⟩ := bdP hf
          refine p_iald hx hb hX.1 hP (hD.1 _ _ dX_2042) sgX1_begin_raI2042 hv37 dX1_begin_166 ?_
          have J231 : ∀ (y38 : Int32), xo_X1_begin_J231 y33 v35 y38 = some o124 → ∀ (H : Heap) (locs : List Loc), PIC D clsA G dsc ad (sgX1_begin σ (σ.1 1027) (σ.1 1028) (σ.1 1029) (σ.2.2.1 1130) (σ.2.2.1 1131) (σ.2.2.1 1132)) H → va_S A s.heap H locs → ∀ (ls : Array Slot), lv_has ls 6 [(0, .ref (ad 1000)), (2, .int v35), (3, .int y38), (4, .int y33)] → W p l e rmX1_begin s m args below meth c0 H locs 0 0 Q (F0 m 231 ls []) := by
            intro y38 hf H locs hP hS ls hl
            unfold xo_X1_begin_J231 at hf
            obtain ⟨v39, hv39, hf⟩ := bdP hf
            refine lv_iinc (v := v39) (lv' := [(4, .int v39), (0, .ref (ad 1000)), (2, .int v35), (3, .int y38)]) hx hb dX1_begin_231 hl (k := 3) rfl (Option.some.inj hv39) (by decide) rfl (fun ls hl => ?_)
            refine lv_goto (tgt := 124) hx hb dX1_begin_234 (by decide) ?_
            exact ih124 _ (Option.some.inj hf).symm H locs hP hS ls (lv_sub hl [1, 2, 3, 0] rfl) KE124_0
          refine lv_icmp_lt (tgt := 173) hx hb dX1_begin_167 (by decide) (fun c40 => ?_) (fun c40 => ?_)
          · have hf := ifT c40 hf
            refine lv_iconst hx hb dX1_begin_173 ic_0 ?_
            refine lv_istore (lv' := [(5, .int 0), (2, .int v35), (0, .ref (ad 1000)), (3, .int y32), (4, .int y33)]) hx hb dX1_begin_174 hl (by decide) rfl (fun ls hl => ?_)
            have LP176 : ∀ (st176 : Int32 × Int32) (ex176 : (Int32)), loop (xo_X1_begin_L176 (σ.1 2027) (σ.2.2.1 2036) nr (fun k => σ.1 (6000 + 16 * k + 4)) y33) st176 = some ex176 → ∀ (H : Heap) (locs : List Loc), PIC D clsA G dsc ad (sgX1_begin σ (σ.1 1027) (σ.1 1028) (σ.1 1029) (σ.2.2.1 1130) (σ.2.2.1 1131) (σ.2.2.1 1132)) H → va_S A s.heap H locs → ∀ (ls : Array Slot), lv_has ls 6 [(0, .ref (ad 1000)), (2, .int v35), (3, .int (st176.1)), (4, .int y33), (5, .int (st176.2))] → (∀ (y55 : Int32), ex176 = y55 → ∀ (H : Heap) (locs : List Loc), PIC D clsA G dsc ad (sgX1_begin σ (σ.1 1027) (σ.1 1028) (σ.1 1029) (σ.2.2.1 1130) (σ.2.2.1 1131) (σ.2.2.1 1132)) H → va_S A s.heap H locs → ∀ (ls : Array Slot), lv_has ls 6 [(0, .ref (ad 1000)), (2, .int v35), (3, .int y55), (4, .int y33)] → W p l e rmX1_begin s m args below meth c0 H locs 0 0 Q (F0 m 231 ls [])) → W p l e rmX1_begin s m args below meth c0 H locs 0 0 Q (F0 m 176 ls []) := by
              refine loop_P (fun st176 ex176 o176 hf ih176 hx176 => ?_)
              obtain ⟨y41, y42⟩ := st176
              intro H locs (hP : PIC D clsA G dsc ad (sgX1_begin σ (σ.1 1027) (σ.1 1028) (σ.1 1029) (σ.2.2.1 1130) (σ.2.2.1 1131) (σ.2.2.1 1132)) H) hS ls (hl : lv_has ls 6 [(0, .ref (ad 1000)), (2, .int v35), (3, .int y41), (4, .int y33), (5, .int y42)]) KE176_0
              dsimp only [xo_X1_begin_L176] at hf
              refine lv_iload hx hb dX1_begin_176 (lv_at hl 4 rfl) ?_
              refine lv_aload_n hx hb dX1_begin_178 rfl (lv_at hl 0 rfl) ?_
              refine gx_X1_33_1000 E hX hD hP dX1_begin_179 ?_
              refine gx_X1_246_2000 E hX hD hP dX1_begin_182 ?_
              obtain ⟨v43, u44, hf⟩ := bdP hf
              refine cx_X1_190_J2_size_Ld E hX hD hP hS hA (kxJ2_size_Ld l D G hD sgX1_begin_rzI2027 u44) ⟨rfl, rfl⟩ ⟨Nat.le_of_ble_eq_true rfl, Nat.le_of_ble_eq_true rfl⟩ ⟨Nat.zero_le _, Nat.zero_le _⟩ hl.1 (Nat.le_of_ble_eq_true rfl) dX1_begin_185 (fun H locs hP hS => ?_)
              refine lv_icmp_ge (tgt := 231) hx hb dX1_begin_188 (by decide) (fun c45 => ?_) (fun c45 => ?_)
              · have hf := ifT c45 hf
                exact KE176_0 _ (hx176 _ (Option.some.inj hf).symm).symm H locs hP hS ls (lv_sub hl [0, 1, 2, 3] rfl)
              · have hf := ifF c45 hf
                refine lv_iload_n hx hb dX1_begin_191 rfl (lv_at hl 2 rfl) ?_
                refine lv_aload_n hx hb dX1_begin_192 rfl (lv_at hl 0 rfl) ?_
                refine gx_X1_33_1000 E hX hD hP dX1_begin_193 ?_
                refine gx_X1_246_2000 E hX hD hP dX1_begin_196 ?_
                refine lv_iload hx hb dX1_begin_199 (lv_at hl 4 rfl) ?_
                obtain ⟨v46, u47, hf⟩ := bdP hf
                refine cx_X1_197_J2_get_Ld E hX hD hP hS hA (kxJ2_get_Ld l D G hD sgX1_begin_rzI2027 sgX1_begin_raI2036 u47) ⟨rfl, rfl⟩ ⟨Nat.le_of_ble_eq_true rfl, Nat.le_of_ble_eq_true rfl⟩ ⟨Nat.zero_le _, Nat.zero_le _⟩ hl.1 (Nat.le_of_ble_eq_true rfl) dX1_begin_201 (fun H locs hP hS => ?_)
                obtain ⟨v48, hv48, hf⟩ := bdP hf
                refine p_castP (ci := 15) (q := (RX18, TX18, 7)) hx hb hX.1 hP hown (hts _ q1505) hv48 hD.2.1 rfl dX1_begin_204 ?_
                obtain ⟨v49, hv49, hf⟩ := bdP hf
                refine gp_X1_215_R E hX hD hP sgX1_begin_rpR4 hv49 dX1_begin_207 ?_
                refine lv_iload hx hb dX1_begin_210 (lv_at hl 3 rfl) ?_
                have J223 : ∀ (k50 : Int32) (k51 : Int32), xo_X1_begin_J223 y42 k50 k51 = some o176 → ∀ (H : Heap) (locs : List Loc), PIC D clsA G dsc ad (sgX1_begin σ (σ.1 1027) (σ.1 1028) (σ.1 1029) (σ.2.2.1 1130) (σ.2.2.1 1131) (σ.2.2.1 1132)) H → va_S A s.heap H locs → ∀ (ls : Array Slot), lv_has ls 6 [(0, .ref (ad 1000)), (2, .int v35), (4, .int y33), (5, .int y42)] → W p l e rmX1_begin s m args below meth c0 H locs 0 0 Q (F0 m 223 ls [.int k50, .int k51]) := by
                  intro k50 k51 hf H locs hP hS ls hl
                  unfold xo_X1_begin_J223 at hf
                  refine lv_ior hx hb dX1_begin_223 ?_
                  obtain ⟨v52, hv52, hf⟩ := bdP hf
                  refine nm_i (Option.some.inj hv52) ?_
                  refine lv_istore_n (lv' := [(3, .int v52), (0, .ref (ad 1000)), (2, .int v35), (4, .int y33), (5, .int y42)]) hx hb dX1_begin_224 rfl hl (by decide) rfl (fun ls hl => ?_)
                  obtain ⟨v53, hv53, hf⟩ := bdP hf
                  refine lv_iinc (v := v53) (lv' := [(5, .int v53), (3, .int v52), (0, .ref (ad 1000)), (2, .int v35), (4, .int y33)]) hx hb dX1_begin_225 hl (k := 4) rfl (Option.some.inj hv53) (by decide) rfl (fun ls hl => ?_)
                  refine lv_goto (tgt := 176) hx hb dX1_begin_228 (by decide) ?_
                  exact ih176 _ (Option.some.inj hf).symm H locs hP hS ls (lv_sub hl [2, 3, 1, 4, 0] rfl) KE176_0
                refine lv_icmp_ne (tgt := 222) hx hb dX1_begin_212 (by decide) (fun c54 => ?_) (fun c54 => ?_)
                · have hf := ifF c54 hf
                  refine lv_iconst hx hb dX1_begin_222 ic_0 ?_
                  exact J223 0 y41 hf H locs hP hS ls (lv_sub hl [0, 1, 3, 4] rfl)
                · have hf := ifT c54 hf
                  refine lv_iconst hx hb dX1_begin_215 ic_1 ?_
                  refine lv_iload hx hb dX1_begin_216 (lv_at hl 4 rfl) ?_
                  refine lv_ishl hx hb dX1_begin_218 ?_
                  refine lv_goto (tgt := 223) hx hb dX1_begin_219 (by decide) ?_
                  exact J223 (1 <<< (y42 &&& 31)) y41 hf H locs hP hS ls (lv_sub hl [0, 1, 3, 4] rfl)
            obtain ⟨ex176, hlp176, hf⟩ := bdP hf
            refine LP176 (y32, 0) ex176 hlp176 H locs hP hS ls (lv_sub hl [2, 1, 3, 4, 0] rfl) ?_
            intro y55 hex176 H locs hP hS ls hl
            subst ex176
            exact J231 y55 hf H locs hP hS ls (lv_sub hl [0, 1, 2, 3] rfl)
          · have hf := ifF c40 hf
            refine lv_goto (tgt := 231) hx hb dX1_begin_170 (by decide) ?_
            exact J231 y32 hf H locs hP hS ls (lv_sub hl [1, 0, 2, 3] rfl)
      obtain ⟨ex124, hlp124, hf⟩ := bdP hf
      refine LP124 (y29, y30, 0) ex124 hlp124 H locs hP hS ls (lv_sub hl [1, 2, 3, 0] rfl) ?_
      intro y56 hex124 H locs hP hS ls hl
      subst ex124
      refine lv_aload_n hx hb dX1_begin_237 rfl (lv_at hl 0 rfl) ?_
      refine lv_iconst hx hb dX1_begin_238 ic_1 ?_
      refine ux_X1_168_1000 E hX hD hP hS (hA _ (PA_c (hD.1 _ _ dX_1000))) rfl rfl sgX1_begin_zI1027 dX1_begin_239 (fun H locs hP hS => ?_)
      refine lv_aload_n hx hb dX1_begin_242 rfl (lv_at hl 0 rfl) ?_
      refine lv_iload_n hx hb dX1_begin_243 rfl (lv_at hl 1 rfl) ?_
      refine ux_X1_450_1000 E hX hD hP hS (hA _ (PA_c (hD.1 _ _ dX_1000))) sgX1_begin_zI1028 dX1_begin_244 (fun H locs hP hS => ?_)
      refine lv_aload_n hx hb dX1_begin_247 rfl (lv_at hl 0 rfl) ?_
      refine lv_iconst hx hb dX1_begin_248 ic_0 ?_
      refine ux_X1_452_1000 E hX hD hP hS (hA _ (PA_c (hD.1 _ _ dX_1000))) sgX1_begin_zI1029 dX1_begin_249 (fun H locs hP hS => ?_)
      refine lv_aload_n hx hb dX1_begin_252 rfl (lv_at hl 0 rfl) ?_
      refine gx_X1_128_1000 E hX hD hP dX1_begin_253 ?_
      refine lv_iconst hx hb dX1_begin_256 ic_0 ?_
      refine lv_aload_n hx hb dX1_begin_257 rfl (lv_at hl 0 rfl) ?_
      refine gx_X1_33_1000 E hX hD hP dX1_begin_258 ?_
      refine gx_X1_253_2000 (v := (σ.1 2012)) E hX hD hP sgX1_begin_rzI2012 dX1_begin_261 ?_
      obtain ⟨a57, ha57, hf⟩ := bdP hf
      refine p_iast hx hb hX.1 hP hS (hA _ (PA_c (hD.1 _ _ dX_1130))) (hD.1 _ _ dX_1130) sgX1_begin_raI1130 ha57 sgX1_begin_aI1130 dX1_begin_264 (fun H locs hP hS => ?_)
      refine lv_aload_n hx hb dX1_begin_265 rfl (lv_at hl 0 rfl) ?_
      refine gx_X1_131_1000 E hX hD hP dX1_begin_266 ?_
      refine lv_iconst hx hb dX1_begin_269 ic_0 ?_
      refine lv_iconst hx hb dX1_begin_270 ic_0 ?_
      obtain ⟨a58, ha58, hf⟩ := bdP hf
      refine p_iast hx hb hX.1 hP hS (hA _ (PA_c (hD.1 _ _ dX_1131))) (hD.1 _ _ dX_1131) sgX1_begin_raI1131 ha58 sgX1_begin_aI1131 dX1_begin_271 (fun H locs hP hS => ?_)
      refine lv_aload_n hx hb dX1_begin_272 rfl (lv_at hl 0 rfl) ?_
      refine gx_X1_134_1000 E hX hD hP dX1_begin_273 ?_
      refine lv_iconst hx hb dX1_begin_276 ic_0 ?_
      refine lv_aload_n hx hb dX1_begin_277 rfl (lv_at hl 0 rfl) ?_
      refine lv_aload_n hx hb dX1_begin_278 rfl (lv_at hl 0 rfl) ?_
      refine gx_X1_33_1000 E hX hD hP dX1_begin_279 ?_
      refine gx_X1_253_2000 (v := (σ.1 2012)) E hX hD hP sgX1_begin_rzI2012 dX1_begin_282 ?_
      refine lv_iconst hx hb dX1_begin_285 ic_0 ?_
      refine lv_aload_n hx hb dX1_begin_286 rfl (lv_at hl 0 rfl) ?_
      refine gx_X1_450_1000 (v := y56) E hX hD hP sgX1_begin_rzI1028 dX1_begin_287 ?_
      obtain ⟨v59, u60, hf⟩ := bdP hf
      refine cx_X1_377_X1_seeing E hX hD hP hS hA (kxX1_seeing l D G hD sgX1_begin_rzI2027 sgX1_begin_raI1170 sgX1_begin_raI2043 u60) ⟨rfl, rfl⟩ ⟨Nat.le_of_ble_eq_true rfl, Nat.le_of_ble_eq_true rfl⟩ ⟨Nat.zero_le _, Nat.zero_le _⟩ hl.1 (Nat.le_of_ble_eq_true rfl) dX1_begin_290 (fun H locs hP hS => ?_)
      obtain ⟨a61, ha61, hf⟩ := bdP hf
      refine p_iast hx hb hX.1 hP hS (hA _ (PA_c (hD.1 _ _ dX_1132))) (hD.1 _ _ dX_1132) sgX1_begin_raI1132 ha61 sgX1_begin_aI1132 dX1_begin_293 (fun H locs hP hS => ?_)
      refine lv_iconst hx hb dX1_begin_294 ic_1 ?_
      cases hf
      rw [hQ]; exact g_nret hx hb hr hlk hP hS rfl dX1_begin_295
    · have hf := ifT c4 hf
      refine lv_iconst hx hb dX1_begin_14 ic_0 ?_
      cases hf
      rw [hQ]; exact g_nret hx hb hr hlk hP hS rfl dX1_begin_15
theorem kxX1_begin (l : Launch) (D : va_G) (G : Nat → ClassId) {dsc : Nat → Option Dsc} {ad : Nat → Nat} {σ : Sto} {nr nw nu : Nat} (hD : XD dsc nr nw nu) {x1 : Int32} {r_ : Int32} {w_zI1027 : Int32} {w_zI1028 : Int32} {w_zI1029 : Int32} {w_aI1130 : Nat → Int32} {w_aI1131 : Nat → Int32} {w_aI1132 : Nat → Int32} {z_X_isWalking : Int32} (e_zI1027 : σ.1 1027 = z_X_isWalking) {z_X_world : Int32} (e_zI1028 : σ.1 1028 = z_X_world) {z_X_steps : Int32} (e_zI1029 : σ.1 1029 = z_X_steps) {z_L_causes : Int32} (e_zI2009 : σ.1 2009 = z_L_causes) {z_L_from : Int32} (e_zI2012 : σ.1 2012 = z_L_from) {z_L_to : Int32} (e_zI2013 : σ.1 2013 = z_L_to) {z_Ld_size : Int32} (e_zI2027 : σ.1 2027 = z_Ld_size) {a_X_places : Nat → Int32} (e_aI1130 : σ.2.2.1 1130 = a_X_places) {a_X_gone : Nat → Int32} (e_aI1131 : σ.2.2.1 1131 = a_X_gone) {a_X_knowns : Nat → Int32} (e_aI1132 : σ.2.2.1 1132 = a_X_knowns) {a_UNIT : Nat → Int32} (e_aI1170 : σ.2.2.1 1170 = a_UNIT) {a_Ld_data : Nat → Int32} (e_aI2036 : σ.2.2.1 2036 = a_Ld_data) {a_L_comes : Nat → Int32} (e_aI2042 : σ.2.2.1 2042 = a_L_comes) {a_L_seen : Nat → Int32} (e_aI2043 : σ.2.2.1 2043 = a_L_seen) {n_r : Nat} (e_nN0 : nr = n_r) {p_road_doubt : Nat → Int32} (e_pR3 : (fun k => σ.1 (6000 + 16 * k + 3)) = p_road_doubt) {p_road_cause : Nat → Int32} (e_pR4 : (fun k => σ.1 (6000 + 16 * k + 4)) = p_road_cause) (hf : xo_X1_begin z_X_isWalking z_X_world z_X_steps z_L_causes z_L_from z_L_to z_Ld_size a_X_places a_X_gone a_X_knowns a_UNIT a_Ld_data a_L_comes a_L_seen n_r p_road_doubt p_road_cause x1 = some (r_, w_zI1027, w_zI1028, w_zI1029, w_aI1130, w_aI1131, w_aI1132)) : CtG l D G dsc ad yX1_begin (ws_ yX1_begin cX1_begin 6 (Option.some Jvm.ClassFile.FieldType.boolean)) rmX1_begin [.ref (ad 1000), .int x1] σ (some (.int r_)) (aI (aI (aI (zI (zI (zI σ 1027 w_zI1027) 1028 w_zI1028) 1029 w_zI1029) 1130 w_aI1130) 1131 w_aI1131) 1132 w_aI1132) := by
  subst e_zI1027
  subst e_zI1028
  subst e_zI1029
  subst e_zI2009
  subst e_zI2012
  subst e_zI2013
  subst e_zI2027
  subst e_aI1130
  subst e_aI1131
  subst e_aI1132
  subst e_aI1170
  subst e_aI2036
  subst e_aI2042
  subst e_aI2043
  subst e_nN0
  subst e_pR3
  subst e_pR4
  exact p_ctG (by decide +kernel) (Nat.le_of_ble_eq_true rfl) (fun p e s m below meth c0 ls A E hP hX hA hS hl => wkX1_begin E hX hD hA hf rfl hP hS hl)
/-! X1_in (III)Z -/
abbrev rmX1_in : Room := { frames := 0, cells := 0, slots := 0, locals := 0 }
set_option maxHeartbeats 4000000 in
theorem wkX1_in {x0 : Int32} {x1 : Int32} {x2 : Int32} {r_ : Int32} (E : EN p s m args meth c0 RX1 cX1_in 3 (Option.some Jvm.ClassFile.FieldType.boolean)) (hX : KX D G ad A s s.heap) (hD : XD dsc nr nw nu) (hA : ∀ q, PA dsc ad s.heap.size q → A q) (hf : xo_X1_in x0 x1 x2 = some r_) (hQ : Q = MQ below (va_G1 (some (.int r_)) (fun t => PIC D clsA G dsc ad σ t.heap) A) args s 0 0 A) (hP : PIC D clsA G dsc ad σ H) (hS : va_S A s.heap H locs) (hl : lv_has ls 3 [(0, .int x0), (1, .int x1), (2, .int x2)]) : W p l e rmX1_in s m args below meth c0 H locs 0 0 Q (F0 m 0 ls []) := by
  obtain ⟨⟨hx, hb, hml, hown, hts⟩, hr, hlk⟩ := id E
  unfold xo_X1_in at hf
  refine lv_iload_n hx hb dX1_in_0 rfl (lv_at hl 0 rfl) ?_
  refine lv_iload_n hx hb dX1_in_1 rfl (lv_at hl 1 rfl) ?_
  have J14 : xo_X1_in_J14 = some r_ → ∀ (H : Heap) (locs : List Loc), PIC D clsA G dsc ad σ H → va_S A s.heap H locs → ∀ (ls : Array Slot), lv_has ls 3 [] → W p l e rmX1_in s m args below meth c0 H locs 0 0 Q (F0 m 14 ls []) := by
    intro  hf H locs hP hS ls hl
    unfold xo_X1_in_J14 at hf
    refine lv_iconst hx hb dX1_in_14 ic_0 ?_
    cases hf
    rw [hQ]; exact g_nret hx hb hr hlk hP hS rfl dX1_in_15
  refine lv_icmp_lt (tgt := 14) hx hb dX1_in_2 (by decide) (fun c1 => ?_) (fun c1 => ?_)
  · have hf := ifT c1 hf
    exact J14  hf H locs hP hS ls (lv_sub hl [] rfl)
  · have hf := ifF c1 hf
    refine lv_iload_n hx hb dX1_in_5 rfl (lv_at hl 0 rfl) ?_
    refine lv_iload_n hx hb dX1_in_6 rfl (lv_at hl 2 rfl) ?_
    refine lv_icmp_gt (tgt := 14) hx hb dX1_in_7 (by decide) (fun c2 => ?_) (fun c2 => ?_)
    · have hf := ifT c2 hf
      exact J14  hf H locs hP hS ls (lv_sub hl [] rfl)
    · have hf := ifF c2 hf
      refine lv_iconst hx hb dX1_in_10 ic_1 ?_
      refine lv_goto (tgt := 15) hx hb dX1_in_11 (by decide) ?_
      cases hf
      rw [hQ]; exact g_nret hx hb hr hlk hP hS rfl dX1_in_15
theorem kxX1_in (l : Launch) (D : va_G) (G : Nat → ClassId) {dsc : Nat → Option Dsc} {ad : Nat → Nat} {σ : Sto} {nr nw nu : Nat} (hD : XD dsc nr nw nu) {x0 : Int32} {x1 : Int32} {x2 : Int32} {r_ : Int32} (hf : xo_X1_in x0 x1 x2 = some r_) : CtG l D G dsc ad yX1_in (ws_ yX1_in cX1_in 3 (Option.some Jvm.ClassFile.FieldType.boolean)) rmX1_in [.int x0, .int x1, .int x2] σ (some (.int r_)) σ := by
  exact p_ctG (by decide +kernel) (Nat.le_of_ble_eq_true rfl) (fun p e s m below meth c0 ls A E hP hX hA hS hl => wkX1_in E hX hD hA hf rfl hP hS hl)
theorem cx_X4_53_J2_get_Ld {rm : Room} {σ1 : Sto} {x1 : Int32} {r : Int32} (E : EN p s m args meth c0 RX4 cc nL ret) (hX : KX D G ad A s s.heap) (hD : XD dsc nr nw nu) (hP : PIC D clsA G dsc ad σ H) (hS : va_S A s.heap H locs) (hA : ∀ q, PA dsc ad s.heap.size q → A q) (hM : CtG l D G dsc ad yJ2_get (ws_ yJ2_get cJ2_get 2 (Option.some (Jvm.ClassFile.FieldType.object "java/lang/Object"))) rm [.ref (ad 2025), .int x1] σ (some (va_rf (drf ad 6000 r))) σ1) (hz : rm.cells = 0 ∧ rm.slots = 0) (hR : rm.frames + 1 ≤ R.frames ∧ 8 + (2 + 11) + rm.locals ≤ R.locals) (hcs : cells ≤ R.cells ∧ slots ≤ R.slots) (hsz : ls.size = nL) (hW : (rest.map fun v => v.category).sum ≤ 8) (hdg : decode cc pc = .ok (.invokevirtual 53, 3)) (kk : ∀ (H1 : Heap) (locs1 : List Loc), PIC D clsA G dsc ad σ1 H1 → va_S A s.heap H1 locs1 → W p l e R s m args below meth c0 H1 locs1 cells slots Q (F0 m (pc + 3) ls (va_rf (drf ad 6000 r) :: rest))) : W p l e R s m args below meth c0 H locs cells slots Q (F0 m pc ls (.int x1 :: .ref (ad 2025) :: rest)) :=
  p_gV (As := [.int x1]) (rest := rest) E.1 hX hP hS hA hM (cwV 1 E.1.2.2.2.2 (lw_V q1010 q1011 q1012 q129 q1013) rfl hz.1 hz.2 (by decide +kernel) hR) (hD.1 _ _ dX_2025) rfl rfl rfl hsz rfl hW hdg hcs kk
theorem gp_X4_59_R {v h : Int32} {f : Nat → Int32} (E : EN p s m args meth c0 RX4 cc nL ret) (hX : KX D G ad A s s.heap) (hD : XD dsc nr nw nu) (hP : PIC D clsA G dsc ad σ H) (hf : (fun k => σ.1 (6000 + 16 * k + 4)) = f) (hv : rdI f nr v = some h) (hdg : decode cc pc = .ok (.getfield 59, 3)) (kk : W p l e R s m args below meth c0 H locs cells slots Q (F0 m (pc + 3) ls (.int h :: rest))) : W p l e R s m args below meth c0 H locs cells slots Q (F0 m pc ls (va_rf (drf ad 6000 v) :: rest)) := by
  subst hf
  obtain ⟨h0, h1, h2⟩ := pool_ok hv
  exact p_nn h0 (p_getN E.1.1 E.1.2.1 E.1.2.2.2.2 in_X18 E.1.2.2.2.1 hX.1 hP (hD.2.1 _ h1) rfl 4 (by decide) (hX.2.1.1 _ q835 rfl) (fun _ h => h) rfl (congrArg Value.int h2) hdg kk)
theorem gp_X4_62_R {v h : Int32} {f : Nat → Int32} (E : EN p s m args meth c0 RX4 cc nL ret) (hX : KX D G ad A s s.heap) (hD : XD dsc nr nw nu) (hP : PIC D clsA G dsc ad σ H) (hf : (fun k => σ.1 (6000 + 16 * k + 3)) = f) (hv : rdI f nr v = some h) (hdg : decode cc pc = .ok (.getfield 62, 3)) (kk : W p l e R s m args below meth c0 H locs cells slots Q (F0 m (pc + 3) ls (.int h :: rest))) : W p l e R s m args below meth c0 H locs cells slots Q (F0 m pc ls (va_rf (drf ad 6000 v) :: rest)) := by
  subst hf
  obtain ⟨h0, h1, h2⟩ := pool_ok hv
  exact p_nn h0 (p_getN E.1.1 E.1.2.1 E.1.2.2.2.2 in_X18 E.1.2.2.2.1 hX.1 hP (hD.2.1 _ h1) rfl 3 (by decide) (hX.2.1.1 _ q831 rfl) (fun _ h => h) rfl (congrArg Value.int h2) hdg kk)
/-! X4_alone (LShutPasses$Land;IIII)J -/
abbrev rmX4_alone : Room := { frames := 3, cells := 0, slots := 0, locals := 64 }
set_option maxHeartbeats 4000000 in
theorem wkX4_alone {x1 : Int32} {x2 : Int32} {x3 : Int32} {x4 : Int32} {r_ : Int64} (E : EN p s m args meth c0 RX4 cX4_alone 13 (Option.some Jvm.ClassFile.FieldType.long)) (hX : KX D G ad A s s.heap) (hD : XD dsc nr nw nu) (hA : ∀ q, PA dsc ad s.heap.size q → A q) (hf : xo_X4_alone (σ.1 2027) (σ.2.2.1 2036) nr (fun k => σ.1 (6000 + 16 * k + 3)) (fun k => σ.1 (6000 + 16 * k + 4)) x1 x2 x3 x4 = some r_) (hQ : Q = MQ below (va_G1 (some (.long r_)) (fun t => PIC D clsA G dsc ad σ t.heap) A) args s 0 0 A) (hP : PIC D clsA G dsc ad σ H) (hS : va_S A s.heap H locs) (hl : lv_has ls 13 [(0, .ref (ad 2000)), (1, .int x1), (2, .int x2), (3, .int x3), (4, .int x4)]) : W p l e rmX4_alone s m args below meth c0 H locs 0 0 Q (F0 m 0 ls []) := by
  obtain ⟨⟨hx, hb, hml, hown, hts⟩, hr, hlk⟩ := id E
  unfold xo_X4_alone at hf
  refine lv_lconst hx hb dX4_alone_0 lc_1 ?_
  refine lv_lstore (lv' := [(5, .long 1), (0, .ref (ad 2000)), (1, .int x1), (2, .int x2), (3, .int x3), (4, .int x4)]) hx hb dX4_alone_1 hl (by decide) rfl (fun ls hl => ?_)
  refine lv_iconst hx hb dX4_alone_3 ic_0 ?_
  refine lv_istore (lv' := [(7, .int 0), (5, .long 1), (0, .ref (ad 2000)), (1, .int x1), (2, .int x2), (3, .int x3), (4, .int x4)]) hx hb dX4_alone_4 hl (by decide) rfl (fun ls hl => ?_)
  have LP6 : ∀ (st6 : Int64 × Int32) (ex6 : (Int64)), loop (xo_X4_alone_L6 (σ.1 2027) (σ.2.2.1 2036) nr (fun k => σ.1 (6000 + 16 * k + 3)) (fun k => σ.1 (6000 + 16 * k + 4)) x1 x2 x3 x4) st6 = some ex6 → ∀ (H : Heap) (locs : List Loc), PIC D clsA G dsc ad σ H → va_S A s.heap H locs → ∀ (ls : Array Slot), lv_has ls 13 [(0, .ref (ad 2000)), (1, .int x1), (2, .int x2), (3, .int x3), (4, .int x4), (5, .long (st6.1)), (7, .int (st6.2))] → (∀ (y29 : Int64), ex6 = y29 → ∀ (H : Heap) (locs : List Loc), PIC D clsA G dsc ad σ H → va_S A s.heap H locs → ∀ (ls : Array Slot), lv_has ls 13 [(5, .long y29)] → W p l e rmX4_alone s m args below meth c0 H locs 0 0 Q (F0 m 160 ls [])) → W p l e rmX4_alone s m args below meth c0 H locs 0 0 Q (F0 m 6 ls []) := by
    refine loop_P (fun st6 ex6 o6 hf ih6 hx6 => ?_)
    obtain ⟨y1, y2⟩ := st6
    intro H locs (hP : PIC D clsA G dsc ad σ H) hS ls (hl : lv_has ls 13 [(0, .ref (ad 2000)), (1, .int x1), (2, .int x2), (3, .int x3), (4, .int x4), (5, .long y1), (7, .int y2)]) KE6_0
    dsimp only [xo_X4_alone_L6] at hf
    refine lv_iload hx hb dX4_alone_6 (lv_at hl 6 rfl) ?_
    refine lv_aload_n hx hb dX4_alone_8 rfl (lv_at hl 0 rfl) ?_
    refine gx_X4_44_2000 E hX hD hP dX4_alone_9 ?_
    obtain ⟨v3, u4, hf⟩ := bdP hf
    refine cx_X4_48_J2_size_Ld E hX hD hP hS hA (kxJ2_size_Ld l D G hD rfl u4) ⟨rfl, rfl⟩ ⟨Nat.le_of_ble_eq_true rfl, Nat.le_of_ble_eq_true rfl⟩ ⟨Nat.zero_le _, Nat.zero_le _⟩ hl.1 (Nat.le_of_ble_eq_true rfl) dX4_alone_12 (fun H locs hP hS => ?_)
    refine lv_icmp_ge (tgt := 160) hx hb dX4_alone_15 (by decide) (fun c5 => ?_) (fun c5 => ?_)
    · have hf := ifT c5 hf
      exact KE6_0 _ (hx6 _ (Option.some.inj hf).symm).symm H locs hP hS ls (lv_sub hl [5] rfl)
    · have hf := ifF c5 hf
      refine lv_aload_n hx hb dX4_alone_18 rfl (lv_at hl 0 rfl) ?_
      refine gx_X4_44_2000 E hX hD hP dX4_alone_19 ?_
      refine lv_iload hx hb dX4_alone_22 (lv_at hl 6 rfl) ?_
      obtain ⟨v6, u7, hf⟩ := bdP hf
      refine cx_X4_53_J2_get_Ld E hX hD hP hS hA (kxJ2_get_Ld l D G hD rfl rfl u7) ⟨rfl, rfl⟩ ⟨Nat.le_of_ble_eq_true rfl, Nat.le_of_ble_eq_true rfl⟩ ⟨Nat.zero_le _, Nat.zero_le _⟩ hl.1 (Nat.le_of_ble_eq_true rfl) dX4_alone_24 (fun H locs hP hS => ?_)
      obtain ⟨v8, hv8, hf⟩ := bdP hf
      refine p_castP (ci := 15) (q := (RX18, TX18, 7)) hx hb hX.1 hP hown (hts _ q1022) hv8 hD.2.1 rfl dX4_alone_27 ?_
      refine r_astore (lv' := [(8, va_rf (drf ad 6000 v8)), (0, .ref (ad 2000)), (1, .int x1), (2, .int x2), (3, .int x3), (4, .int x4), (5, .long y1), (7, .int y2)]) hx hb dX4_alone_30 hl (by decide) rfl (fun ls hl => ?_)
      refine lv_iload_n hx hb dX4_alone_32 rfl (lv_at hl 2 rfl) ?_
      refine lv_iload hx hb dX4_alone_33 (lv_at hl 7 rfl) ?_
      refine lv_ishr hx hb dX4_alone_35 ?_
      refine lv_iconst hx hb dX4_alone_36 ic_1 ?_
      refine lv_iand hx hb dX4_alone_37 ?_
      refine lv_iconst hx hb dX4_alone_38 ic_1 ?_
      have J47 : ∀ (k9 : Int32), xo_X4_alone_J47 nr (fun k => σ.1 (6000 + 16 * k + 3)) (fun k => σ.1 (6000 + 16 * k + 4)) y1 x2 y2 x3 x4 v8 k9 = some o6 → ∀ (H : Heap) (locs : List Loc), PIC D clsA G dsc ad σ H → va_S A s.heap H locs → ∀ (ls : Array Slot), lv_has ls 13 [(0, .ref (ad 2000)), (1, .int x1), (2, .int x2), (3, .int x3), (4, .int x4), (5, .long y1), (7, .int y2), (8, va_rf (drf ad 6000 v8))] → W p l e rmX4_alone s m args below meth c0 H locs 0 0 Q (F0 m 47 ls [.int k9]) := by
        intro k9 hf H locs hP hS ls hl
        unfold xo_X4_alone_J47 at hf
        refine lv_istore (i := 9) (lv' := [(9, .int k9), (0, .ref (ad 2000)), (1, .int x1), (2, .int x2), (3, .int x3), (4, .int x4), (5, .long y1), (7, .int y2), (8, va_rf (drf ad 6000 v8))]) hx hb dX4_alone_47 hl (by decide) (by simp [List.filter_cons, rf_cat]) (fun ls hl => ?_)
        refine r_aload hx hb dX4_alone_49 (lv_at hl 8 rfl) ?_
        obtain ⟨v10, hv10, hf⟩ := bdP hf
        refine gp_X4_59_R E hX hD hP rfl hv10 dX4_alone_51 ?_
        refine lv_iconst hx hb dX4_alone_54 ic_m1 ?_
        have J76 : ∀ (k11 : Int32), xo_X4_alone_J76 nr (fun k => σ.1 (6000 + 16 * k + 3)) y1 y2 x3 x4 v8 k9 k11 = some o6 → ∀ (H : Heap) (locs : List Loc), PIC D clsA G dsc ad σ H → va_S A s.heap H locs → ∀ (ls : Array Slot), lv_has ls 13 [(0, .ref (ad 2000)), (1, .int x1), (2, .int x2), (3, .int x3), (4, .int x4), (5, .long y1), (7, .int y2), (8, va_rf (drf ad 6000 v8)), (9, .int k9)] → W p l e rmX4_alone s m args below meth c0 H locs 0 0 Q (F0 m 76 ls [.int k11]) := by
          intro k11 hf H locs hP hS ls hl
          unfold xo_X4_alone_J76 at hf
          refine lv_istore (lv' := [(10, .int k11), (0, .ref (ad 2000)), (1, .int x1), (2, .int x2), (3, .int x3), (4, .int x4), (5, .long y1), (7, .int y2), (8, va_rf (drf ad 6000 v8)), (9, .int k9)]) hx hb dX4_alone_76 hl (by decide) rfl (fun ls hl => ?_)
          refine lv_iload hx hb dX4_alone_78 (lv_at hl 7 rfl) ?_
          refine lv_iload_n hx hb dX4_alone_80 rfl (lv_at hl 4 rfl) ?_
          have J94 : ∀ (k12 : Int32), xo_X4_alone_J94 nr (fun k => σ.1 (6000 + 16 * k + 3)) y1 y2 v8 k9 k11 k12 = some o6 → ∀ (H : Heap) (locs : List Loc), PIC D clsA G dsc ad σ H → va_S A s.heap H locs → ∀ (ls : Array Slot), lv_has ls 13 [(0, .ref (ad 2000)), (1, .int x1), (2, .int x2), (3, .int x3), (4, .int x4), (5, .long y1), (7, .int y2), (8, va_rf (drf ad 6000 v8)), (9, .int k9), (10, .int k11)] → W p l e rmX4_alone s m args below meth c0 H locs 0 0 Q (F0 m 94 ls [.int k12]) := by
            intro k12 hf H locs hP hS ls hl
            unfold xo_X4_alone_J94 at hf
            refine lv_istore (lv' := [(11, .int k12), (0, .ref (ad 2000)), (1, .int x1), (2, .int x2), (3, .int x3), (4, .int x4), (5, .long y1), (7, .int y2), (8, va_rf (drf ad 6000 v8)), (9, .int k9), (10, .int k11)]) hx hb dX4_alone_94 hl (by decide) rfl (fun ls hl => ?_)
            refine r_aload hx hb dX4_alone_96 (lv_at hl 8 rfl) ?_
            obtain ⟨v13, hv13, hf⟩ := bdP hf
            refine gp_X4_62_R E hX hD hP rfl hv13 dX4_alone_98 ?_
            have J110 : ∀ (k14 : Int32), xo_X4_alone_J110 y1 y2 k9 k11 k12 k14 = some o6 → ∀ (H : Heap) (locs : List Loc), PIC D clsA G dsc ad σ H → va_S A s.heap H locs → ∀ (ls : Array Slot), lv_has ls 13 [(0, .ref (ad 2000)), (1, .int x1), (2, .int x2), (3, .int x3), (4, .int x4), (5, .long y1), (7, .int y2), (9, .int k9), (10, .int k11), (11, .int k12)] → W p l e rmX4_alone s m args below meth c0 H locs 0 0 Q (F0 m 110 ls [.int k14]) := by
              intro k14 hf H locs hP hS ls hl
              unfold xo_X4_alone_J110 at hf
              refine lv_istore (lv' := [(12, .int k14), (0, .ref (ad 2000)), (1, .int x1), (2, .int x2), (3, .int x3), (4, .int x4), (5, .long y1), (7, .int y2), (9, .int k9), (10, .int k11), (11, .int k12)]) hx hb dX4_alone_110 hl (by decide) rfl (fun ls hl => ?_)
              refine lv_lload hx hb dX4_alone_112 (lv_at hl 6 rfl) ?_
              refine lv_iload hx hb dX4_alone_114 (lv_at hl 9 rfl) ?_
              have J151 : ∀ (k15 : Int64) (k16 : Int64), xo_X4_alone_J151 y2 k15 k16 = some o6 → ∀ (H : Heap) (locs : List Loc), PIC D clsA G dsc ad σ H → va_S A s.heap H locs → ∀ (ls : Array Slot), lv_has ls 13 [(0, .ref (ad 2000)), (1, .int x1), (2, .int x2), (3, .int x3), (4, .int x4), (7, .int y2)] → W p l e rmX4_alone s m args below meth c0 H locs 0 0 Q (F0 m 151 ls [.long k15, .long k16]) := by
                intro k15 k16 hf H locs hP hS ls hl
                unfold xo_X4_alone_J151 at hf
                refine lv_lmul hx hb dX4_alone_151 ?_
                obtain ⟨v17, hv17, hf⟩ := bdP hf
                refine nm_l (Option.some.inj hv17) ?_
                refine lv_lstore (lv' := [(5, .long v17), (0, .ref (ad 2000)), (1, .int x1), (2, .int x2), (3, .int x3), (4, .int x4), (7, .int y2)]) hx hb dX4_alone_152 hl (by decide) rfl (fun ls hl => ?_)
                obtain ⟨v18, hv18, hf⟩ := bdP hf
                refine lv_iinc (v := v18) (lv' := [(7, .int v18), (5, .long v17), (0, .ref (ad 2000)), (1, .int x1), (2, .int x2), (3, .int x3), (4, .int x4)]) hx hb dX4_alone_154 hl (k := 6) rfl (Option.some.inj hv18) (by decide) rfl (fun ls hl => ?_)
                refine lv_goto (tgt := 6) hx hb dX4_alone_157 (by decide) ?_
                exact ih6 _ (Option.some.inj hf).symm H locs hP hS ls (lv_sub hl [2, 3, 4, 5, 6, 1, 0] rfl) KE6_0
              refine lv_if_eq (tgt := 134) hx hb dX4_alone_116 (by decide) (fun c19 => ?_) (fun c19 => ?_)
              · have hf := ifT c19 hf
                refine lv_iload hx hb dX4_alone_134 (lv_at hl 8 rfl) ?_
                refine lv_if_eq (tgt := 145) hx hb dX4_alone_136 (by decide) (fun c20 => ?_) (fun c20 => ?_)
                · have hf := ifT c20 hf
                  refine lv_iload hx hb dX4_alone_145 (lv_at hl 0 rfl) ?_
                  refine lv_iload hx hb dX4_alone_147 (lv_at hl 10 rfl) ?_
                  refine lv_isub hx hb dX4_alone_149 ?_
                  refine lv_i2l hx hb dX4_alone_150 rfl ?_
                  exact J151 ((k14 - k12).toInt64) y1 hf H locs hP hS ls (lv_sub hl [1, 2, 3, 4, 5, 7] rfl)
                · have hf := ifF c20 hf
                  refine lv_iload hx hb dX4_alone_139 (lv_at hl 10 rfl) ?_
                  refine lv_i2l hx hb dX4_alone_141 rfl ?_
                  refine lv_goto (tgt := 151) hx hb dX4_alone_142 (by decide) ?_
                  exact J151 (k12.toInt64) y1 hf H locs hP hS ls (lv_sub hl [1, 2, 3, 4, 5, 7] rfl)
              · have hf := ifF c19 hf
                refine lv_iload hx hb dX4_alone_119 (lv_at hl 8 rfl) ?_
                refine lv_if_eq (tgt := 130) hx hb dX4_alone_121 (by decide) (fun c21 => ?_) (fun c21 => ?_)
                · have hf := ifT c21 hf
                  refine lv_lconst hx hb dX4_alone_130 lc_0 ?_
                  refine lv_goto (tgt := 151) hx hb dX4_alone_131 (by decide) ?_
                  exact J151 0 y1 hf H locs hP hS ls (lv_sub hl [1, 2, 3, 4, 5, 7] rfl)
                · have hf := ifF c21 hf
                  refine lv_iload hx hb dX4_alone_124 (lv_at hl 0 rfl) ?_
                  refine lv_i2l hx hb dX4_alone_126 rfl ?_
                  refine lv_goto (tgt := 151) hx hb dX4_alone_127 (by decide) ?_
                  exact J151 (k14.toInt64) y1 hf H locs hP hS ls (lv_sub hl [1, 2, 3, 4, 5, 7] rfl)
            refine lv_if_le (tgt := 109) hx hb dX4_alone_101 (by decide) (fun c22 => ?_) (fun c22 => ?_)
            · have hf := ifT c22 hf
              refine lv_iconst hx hb dX4_alone_109 ic_1 ?_
              exact J110 1 hf H locs hP hS ls (lv_sub hl [1, 2, 3, 4, 5, 6, 7, 9, 10, 0] rfl)
            · have hf := ifF c22 hf
              refine lv_bipush hx hb dX4_alone_104 bp_10 ?_
              refine lv_goto (tgt := 110) hx hb dX4_alone_106 (by decide) ?_
              exact J110 10 hf H locs hP hS ls (lv_sub hl [1, 2, 3, 4, 5, 6, 7, 9, 10, 0] rfl)
          refine lv_icmp_ne (tgt := 89) hx hb dX4_alone_81 (by decide) (fun c23 => ?_) (fun c23 => ?_)
          · have hf := ifF c23 hf
            refine r_aload hx hb dX4_alone_89 (lv_at hl 8 rfl) ?_
            obtain ⟨v24, hv24, hf⟩ := bdP hf
            refine gp_X4_62_R E hX hD hP rfl hv24 dX4_alone_91 ?_
            exact J94 v24 hf H locs hP hS ls (lv_sub hl [1, 2, 3, 4, 5, 6, 7, 8, 9, 0] rfl)
          · have hf := ifT c23 hf
            refine lv_iload hx hb dX4_alone_84 (lv_at hl 5 rfl) ?_
            refine lv_goto (tgt := 94) hx hb dX4_alone_86 (by decide) ?_
            exact J94 x4 hf H locs hP hS ls (lv_sub hl [1, 2, 3, 4, 5, 6, 7, 8, 9, 0] rfl)
        have J75 : xo_X4_alone_J75 nr (fun k => σ.1 (6000 + 16 * k + 3)) y1 y2 x3 x4 v8 k9 = some o6 → ∀ (H : Heap) (locs : List Loc), PIC D clsA G dsc ad σ H → va_S A s.heap H locs → ∀ (ls : Array Slot), lv_has ls 13 [(0, .ref (ad 2000)), (1, .int x1), (2, .int x2), (3, .int x3), (4, .int x4), (5, .long y1), (7, .int y2), (8, va_rf (drf ad 6000 v8)), (9, .int k9)] → W p l e rmX4_alone s m args below meth c0 H locs 0 0 Q (F0 m 75 ls []) := by
          intro  hf H locs hP hS ls hl
          unfold xo_X4_alone_J75 at hf
          refine lv_iconst hx hb dX4_alone_75 ic_0 ?_
          exact J76 0 hf H locs hP hS ls (lv_sub hl [0, 1, 2, 3, 4, 5, 6, 7, 8] rfl)
        refine lv_icmp_eq (tgt := 75) hx hb dX4_alone_55 (by decide) (fun c25 => ?_) (fun c25 => ?_)
        · have hf := ifT c25 hf
          exact J75  hf H locs hP hS ls (lv_sub hl [1, 2, 3, 4, 5, 6, 7, 8, 0] rfl)
        · have hf := ifF c25 hf
          refine lv_iload_n hx hb dX4_alone_58 rfl (lv_at hl 3 rfl) ?_
          refine r_aload hx hb dX4_alone_59 (lv_at hl 8 rfl) ?_
          obtain ⟨v26, hv26, hf⟩ := bdP hf
          refine gp_X4_59_R E hX hD hP rfl hv26 dX4_alone_61 ?_
          refine lv_ishr hx hb dX4_alone_64 ?_
          refine lv_iconst hx hb dX4_alone_65 ic_1 ?_
          refine lv_iand hx hb dX4_alone_66 ?_
          refine lv_iconst hx hb dX4_alone_67 ic_1 ?_
          refine lv_icmp_ne (tgt := 75) hx hb dX4_alone_68 (by decide) (fun c27 => ?_) (fun c27 => ?_)
          · have hf := ifF c27 hf
            exact J75  hf H locs hP hS ls (lv_sub hl [1, 2, 3, 4, 5, 6, 7, 8, 0] rfl)
          · have hf := ifT c27 hf
            refine lv_iconst hx hb dX4_alone_71 ic_1 ?_
            refine lv_goto (tgt := 76) hx hb dX4_alone_72 (by decide) ?_
            exact J76 1 hf H locs hP hS ls (lv_sub hl [1, 2, 3, 4, 5, 6, 7, 8, 0] rfl)
      refine lv_icmp_ne (tgt := 46) hx hb dX4_alone_39 (by decide) (fun c28 => ?_) (fun c28 => ?_)
      · have hf := ifF c28 hf
        refine lv_iconst hx hb dX4_alone_46 ic_0 ?_
        exact J47 0 hf H locs hP hS ls (lv_sub hl [1, 2, 3, 4, 5, 6, 7, 0] rfl)
      · have hf := ifT c28 hf
        refine lv_iconst hx hb dX4_alone_42 ic_1 ?_
        refine lv_goto (tgt := 47) hx hb dX4_alone_43 (by decide) ?_
        exact J47 1 hf H locs hP hS ls (lv_sub hl [1, 2, 3, 4, 5, 6, 7, 0] rfl)
  obtain ⟨ex6, hlp6, hf⟩ := bdP hf
  refine LP6 (1, 0) ex6 hlp6 H locs hP hS ls (lv_sub hl [2, 3, 4, 5, 6, 1, 0] rfl) ?_
  intro y29 hex6 H locs hP hS ls hl
  subst ex6
  refine lv_lload hx hb dX4_alone_160 (lv_at hl 0 rfl) ?_
  cases hf
  rw [hQ]; exact g_lret hx hb hr hlk hP hS dX4_alone_162
theorem kxX4_alone (l : Launch) (D : va_G) (G : Nat → ClassId) {dsc : Nat → Option Dsc} {ad : Nat → Nat} {σ : Sto} {nr nw nu : Nat} (hD : XD dsc nr nw nu) {x1 : Int32} {x2 : Int32} {x3 : Int32} {x4 : Int32} {r_ : Int64} {z_Ld_size : Int32} (e_zI2027 : σ.1 2027 = z_Ld_size) {a_Ld_data : Nat → Int32} (e_aI2036 : σ.2.2.1 2036 = a_Ld_data) {n_r : Nat} (e_nN0 : nr = n_r) {p_road_doubt : Nat → Int32} (e_pR3 : (fun k => σ.1 (6000 + 16 * k + 3)) = p_road_doubt) {p_road_cause : Nat → Int32} (e_pR4 : (fun k => σ.1 (6000 + 16 * k + 4)) = p_road_cause) (hf : xo_X4_alone z_Ld_size a_Ld_data n_r p_road_doubt p_road_cause x1 x2 x3 x4 = some r_) : CtG l D G dsc ad yX4_alone (ws_ yX4_alone cX4_alone 13 (Option.some Jvm.ClassFile.FieldType.long)) rmX4_alone [.ref (ad 2000), .int x1, .int x2, .int x3, .int x4] σ (some (.long r_)) σ := by
  subst e_zI2027
  subst e_aI2036
  subst e_nN0
  subst e_pR3
  subst e_pR4
  exact p_ctG (by decide +kernel) (Nat.le_of_ble_eq_true rfl) (fun p e s m below meth c0 ls A E hP hX hA hS hl => wkX4_alone E hX hD hA hf rfl hP hS hl)
/-! X3_knowns ()I -/
abbrev rmX3_knowns : Room := { frames := 1, cells := 0, slots := 0, locals := 20 }
set_option maxHeartbeats 4000000 in
theorem wkX3_knowns {r_ : Int32} (E : EN p s m args meth c0 RX3 cX3_knowns 1 (Option.some Jvm.ClassFile.FieldType.int)) (hX : KX D G ad A s s.heap) (hD : XD dsc nr nw nu) (hA : ∀ q, PA dsc ad s.heap.size q → A q) (hf : xo_X3_knowns (σ.1 2027) (σ.2.2.1 1170) = some r_) (hQ : Q = MQ below (va_G1 (some (.int r_)) (fun t => PIC D clsA G dsc ad σ t.heap) A) args s 0 0 A) (hP : PIC D clsA G dsc ad σ H) (hS : va_S A s.heap H locs) (hl : lv_has ls 1 [(0, .ref (ad 2000))]) : W p l e rmX3_knowns s m args below meth c0 H locs 0 0 Q (F0 m 0 ls []) := by
  obtain ⟨⟨hx, hb, hml, hown, hts⟩, hr, hlk⟩ := id E
  unfold xo_X3_knowns at hf
  refine va_getsN hx hb hX.2.2.1 hS hown (va_Nw.use rfl (hX.2.1.1 _ q1031 rfl)) (fun _ h => h) dX3_knowns_0 ?_
  refine lv_aload_n hx hb dX3_knowns_3 rfl (lv_at hl 0 rfl) ?_
  refine gx_X3_20_2000 E hX hD hP dX3_knowns_4 ?_
  obtain ⟨v1, u2, hf⟩ := bdP hf
  refine cx_X3_72_J2_size_Ld E hX hD hP hS hA (kxJ2_size_Ld l D G hD rfl u2) ⟨rfl, rfl⟩ ⟨Nat.le_of_ble_eq_true rfl, Nat.le_of_ble_eq_true rfl⟩ ⟨Nat.zero_le _, Nat.zero_le _⟩ hl.1 (Nat.le_of_ble_eq_true rfl) dX3_knowns_7 (fun H locs hP hS => ?_)
  obtain ⟨v3, hv3, hf⟩ := bdP hf
  refine p_iald hx hb hX.1 hP (hD.1 _ _ dX_1170) rfl hv3 dX3_knowns_10 ?_
  cases hf
  rw [hQ]; exact g_iret hx hb hr hlk hP hS dX3_knowns_11
theorem kxX3_knowns (l : Launch) (D : va_G) (G : Nat → ClassId) {dsc : Nat → Option Dsc} {ad : Nat → Nat} {σ : Sto} {nr nw nu : Nat} (hD : XD dsc nr nw nu) {r_ : Int32} {z_Ld_size : Int32} (e_zI2027 : σ.1 2027 = z_Ld_size) {a_UNIT : Nat → Int32} (e_aI1170 : σ.2.2.1 1170 = a_UNIT) (hf : xo_X3_knowns z_Ld_size a_UNIT = some r_) : CtG l D G dsc ad yX3_knowns (ws_ yX3_knowns cX3_knowns 1 (Option.some Jvm.ClassFile.FieldType.int)) rmX3_knowns [.ref (ad 2000)] σ (some (.int r_)) σ := by
  subst e_zI2027
  subst e_aI1170
  exact p_ctG (by decide +kernel) (Nat.le_of_ble_eq_true rfl) (fun p e s m below meth c0 ls A E hP hX hA hS hl => wkX3_knowns E hX hD hA hf rfl hP hS hl)
theorem cx_X4_65_X3_knowns {rm : Room} {σ1 : Sto} {r : Int32} (E : EN p s m args meth c0 RX4 cc nL ret) (hX : KX D G ad A s s.heap) (hD : XD dsc nr nw nu) (hP : PIC D clsA G dsc ad σ H) (hS : va_S A s.heap H locs) (hA : ∀ q, PA dsc ad s.heap.size q → A q) (hM : CtG l D G dsc ad yX3_knowns (ws_ yX3_knowns cX3_knowns 1 (Option.some Jvm.ClassFile.FieldType.int)) rm [.ref (ad 2000)] σ (some (.int r)) σ1) (hz : rm.cells = 0 ∧ rm.slots = 0) (hR : rm.frames + 1 ≤ R.frames ∧ 8 + (1 + 11) + rm.locals ≤ R.locals) (hcs : cells ≤ R.cells ∧ slots ≤ R.slots) (hsz : ls.size = nL) (hW : (rest.map fun v => v.category).sum ≤ 8) (hdg : decode cc pc = .ok (.invokevirtual 65, 3)) (kk : ∀ (H1 : Heap) (locs1 : List Loc), PIC D clsA G dsc ad σ1 H1 → va_S A s.heap H1 locs1 → W p l e R s m args below meth c0 H1 locs1 cells slots Q (F0 m (pc + 3) ls (.int r :: rest))) : W p l e R s m args below meth c0 H locs cells slots Q (F0 m pc ls (.ref (ad 2000) :: rest)) :=
  p_gV (As := []) (rest := rest) E.1 hX hP hS hA hM (cwV 0 E.1.2.2.2.2 (lw_V q1027 q1028 q1029 q126 q1030) rfl hz.1 hz.2 (by decide +kernel) hR) (hD.1 _ _ dX_2000) rfl rfl rfl hsz rfl hW hdg hcs kk
theorem gx_X4_15_1050 (E : EN p s m args meth c0 RX4 cc nL ret) (hX : KX D G ad A s s.heap) (hD : XD dsc nr nw nu) (hP : PIC D clsA G dsc ad σ H) (hdg : decode cc pc = .ok (.getfield 15, 3)) (kk : W p l e R s m args below meth c0 H locs cells slots Q (F0 m (pc + 3) ls (.ref (ad 1141) :: rest))) : W p l e R s m args below meth c0 H locs cells slots Q (F0 m pc ls (.ref (ad 1050) :: rest)) :=
  p_get E.1.1 E.1.2.1 E.1.2.2.2.2 in_X4 E.1.2.2.2.1 hX.1 hP (hD.1 _ _ dX_1050) rfl 1 (by decide) (E.1.2.2.2.2 _ q327) (fun _ h => h) rfl rfl hdg kk
theorem cx_X4_32_X3_worlds {rm : Room} {σ1 : Sto} {r : Int32} (E : EN p s m args meth c0 RX4 cc nL ret) (hX : KX D G ad A s s.heap) (hD : XD dsc nr nw nu) (hP : PIC D clsA G dsc ad σ H) (hS : va_S A s.heap H locs) (hA : ∀ q, PA dsc ad s.heap.size q → A q) (hM : CtG l D G dsc ad yX3_worlds (ws_ yX3_worlds cX3_worlds 1 (Option.some Jvm.ClassFile.FieldType.int)) rm [.ref (ad 2000)] σ (some (.int r)) σ1) (hz : rm.cells = 0 ∧ rm.slots = 0) (hR : rm.frames + 1 ≤ R.frames ∧ 8 + (1 + 11) + rm.locals ≤ R.locals) (hcs : cells ≤ R.cells ∧ slots ≤ R.slots) (hsz : ls.size = nL) (hW : (rest.map fun v => v.category).sum ≤ 8) (hdg : decode cc pc = .ok (.invokevirtual 32, 3)) (kk : ∀ (H1 : Heap) (locs1 : List Loc), PIC D clsA G dsc ad σ1 H1 → va_S A s.heap H1 locs1 → W p l e R s m args below meth c0 H1 locs1 cells slots Q (F0 m (pc + 3) ls (.int r :: rest))) : W p l e R s m args below meth c0 H locs cells slots Q (F0 m pc ls (.ref (ad 2000) :: rest)) :=
  p_gV (As := []) (rest := rest) E.1 hX hP hS hA hM (cwV 0 E.1.2.2.2.2 (lw_V q1005 q992 q993 q126 q994) rfl hz.1 hz.2 (by decide +kernel) hR) (hD.1 _ _ dX_2000) rfl rfl rfl hsz rfl hW hdg hcs kk
theorem cx_X4_68_X4_agrees {rm : Room} {σ1 : Sto} {x1 : Int32} {x2 : Int32} {r : Int32} (E : EN p s m args meth c0 RX4 cc nL ret) (hX : KX D G ad A s s.heap) (hD : XD dsc nr nw nu) (hP : PIC D clsA G dsc ad σ H) (hS : va_S A s.heap H locs) (hA : ∀ q, PA dsc ad s.heap.size q → A q) (hM : CtG l D G dsc ad yX4_agrees (ws_ yX4_agrees cX4_agrees 4 (Option.some Jvm.ClassFile.FieldType.boolean)) rm [.ref (ad 2000), .int x1, .int x2] σ (some (.int r)) σ1) (hz : rm.cells = 0 ∧ rm.slots = 0) (hR : rm.frames + 1 ≤ R.frames ∧ 8 + (4 + 11) + rm.locals ≤ R.locals) (hcs : cells ≤ R.cells ∧ slots ≤ R.slots) (hsz : ls.size = nL) (hW : (rest.map fun v => v.category).sum ≤ 8) (hdg : decode cc pc = .ok (.invokestatic 68, 3)) (kk : ∀ (H1 : Heap) (locs1 : List Loc), PIC D clsA G dsc ad σ1 H1 → va_S A s.heap H1 locs1 → W p l e R s m args below meth c0 H1 locs1 cells slots Q (F0 m (pc + 3) ls (.int r :: rest))) : W p l e R s m args below meth c0 H locs cells slots Q (F0 m pc ls (.int x2 :: .int x1 :: .ref (ad 2000) :: rest)) :=
  p_gS (As := [.ref (ad 2000), .int x1, .int x2]) (rest := rest) E.1 hX hP hS hA hM (va_cwS 3 E.1.2.2.2.2 (lw_S q1033 q1034 q130 q1035) rfl hz.1 hz.2 (by decide +kernel) hR) rfl hsz rfl hW hdg hcs kk
theorem gx_X4_9_1050 (E : EN p s m args meth c0 RX4 cc nL ret) (hX : KX D G ad A s s.heap) (hD : XD dsc nr nw nu) (hP : PIC D clsA G dsc ad σ H) (hdg : decode cc pc = .ok (.getfield 9, 3)) (kk : W p l e R s m args below meth c0 H locs cells slots Q (F0 m (pc + 3) ls (.ref (ad 1140) :: rest))) : W p l e R s m args below meth c0 H locs cells slots Q (F0 m pc ls (.ref (ad 1050) :: rest)) :=
  p_get E.1.1 E.1.2.1 E.1.2.2.2.2 in_X4 E.1.2.2.2.1 hX.1 hP (hD.1 _ _ dX_1050) rfl 0 (by decide) (E.1.2.2.2.2 _ q323) (fun _ h => h) rfl rfl hdg kk
/-! X4_join_W (LShutPasses$Land;)V -/
def sgX4_join_W (σ : Sto) (w0 : Nat → Int64) : Sto := aL σ 1141 w0
theorem sgX4_join_W_self (σ : Sto) : sgX4_join_W σ (σ.2.2.2.1 1141) = σ := by
  unfold sgX4_join_W
  simp only [zI_self, zL_self, aI_self, aL_self]
theorem sgX4_join_W_aL1141 {σ : Sto} {w0 : Nat → Int64} {g : Nat → Int64} : aL (sgX4_join_W σ w0) 1141 g = sgX4_join_W σ g := aL_aL _ 1141 _ _
theorem sgX4_join_W_rzI2027 {σ : Sto} {w0 : Nat → Int64} : (sgX4_join_W σ w0).1 2027 = σ.1 2027 := rfl
theorem sgX4_join_W_raI1170 {σ : Sto} {w0 : Nat → Int64} : (sgX4_join_W σ w0).2.2.1 1170 = σ.2.2.1 1170 := rfl
theorem sgX4_join_W_raL1140 {σ : Sto} {w0 : Nat → Int64} : (sgX4_join_W σ w0).2.2.2.1 1140 = σ.2.2.2.1 1140 := rfl
theorem sgX4_join_W_raL1141 {σ : Sto} {w0 : Nat → Int64} : (sgX4_join_W σ w0).2.2.2.1 1141 = w0 := rfl
abbrev rmX4_join_W : Room := { frames := 2, cells := 0, slots := 0, locals := 44 }
set_option maxHeartbeats 4000000 in
theorem wkX4_join_W {w_aL1141 : Nat → Int64} (E : EN p s m args meth c0 RX4 cX4_join 4 (Option.none : Option Jvm.ClassFile.FieldType)) (hX : KX D G ad A s s.heap) (hD : XD dsc nr nw nu) (hA : ∀ q, PA dsc ad s.heap.size q → A q) (hf : xo_X4_join_W (σ.1 2027) (σ.2.2.1 1170) (σ.2.2.2.1 1140) (σ.2.2.2.1 1141) = some w_aL1141) (hQ : Q = MQ below (va_G1 none (fun t => PIC D clsA G dsc ad (sgX4_join_W σ w_aL1141) t.heap) A) args s 0 0 A) (hP : PIC D clsA G dsc ad σ H) (hS : va_S A s.heap H locs) (hl : lv_has ls 4 [(0, .ref (ad 1050)), (1, .ref (ad 2000))]) : W p l e rmX4_join_W s m args below meth c0 H locs 0 0 Q (F0 m 0 ls []) := by
  obtain ⟨⟨hx, hb, hml, hown, hts⟩, hr, hlk⟩ := id E
  have hP := hP.to (sgX4_join_W_self σ).symm
  unfold xo_X4_join_W at hf
  refine lv_iconst hx hb dX4_join_0 ic_0 ?_
  refine lv_istore_n (lv' := [(2, .int 0), (0, .ref (ad 1050)), (1, .ref (ad 2000))]) hx hb dX4_join_1 rfl hl (by decide) rfl (fun ls hl => ?_)
  have LP2 : ∀ (st2 : Int32 × (Nat → Int64)) (ex2 : ((Nat → Int64))), loop (xo_X4_join_W_L2 (σ.1 2027) (σ.2.2.1 1170) (σ.2.2.2.1 1140)) st2 = some ex2 → ∀ (H : Heap) (locs : List Loc), PIC D clsA G dsc ad (sgX4_join_W σ (st2.2)) H → va_S A s.heap H locs → ∀ (ls : Array Slot), lv_has ls 4 [(0, .ref (ad 1050)), (1, .ref (ad 2000)), (2, .int (st2.1))] → (∀ (a24 : Nat → Int64), ex2 = a24 → ∀ (H : Heap) (locs : List Loc), PIC D clsA G dsc ad (sgX4_join_W σ a24) H → va_S A s.heap H locs → ∀ (ls : Array Slot), lv_has ls 4 [] → W p l e rmX4_join_W s m args below meth c0 H locs 0 0 Q (F0 m 67 ls [])) → W p l e rmX4_join_W s m args below meth c0 H locs 0 0 Q (F0 m 2 ls []) := by
    refine loop_P (fun st2 ex2 o2 hf ih2 hx2 => ?_)
    obtain ⟨y1, a2⟩ := st2
    intro H locs (hP : PIC D clsA G dsc ad (sgX4_join_W σ a2) H) hS ls (hl : lv_has ls 4 [(0, .ref (ad 1050)), (1, .ref (ad 2000)), (2, .int y1)]) KE2_0
    dsimp only [xo_X4_join_W_L2] at hf
    refine lv_iload_n hx hb dX4_join_2 rfl (lv_at hl 2 rfl) ?_
    refine lv_aload_n hx hb dX4_join_3 rfl (lv_at hl 1 rfl) ?_
    obtain ⟨v3, u4, hf⟩ := bdP hf
    refine cx_X4_65_X3_knowns E hX hD hP hS hA (kxX3_knowns l D G hD sgX4_join_W_rzI2027 sgX4_join_W_raI1170 u4) ⟨rfl, rfl⟩ ⟨Nat.le_of_ble_eq_true rfl, Nat.le_of_ble_eq_true rfl⟩ ⟨Nat.zero_le _, Nat.zero_le _⟩ hl.1 (Nat.le_of_ble_eq_true rfl) dX4_join_4 (fun H locs hP hS => ?_)
    refine lv_icmp_ge (tgt := 67) hx hb dX4_join_7 (by decide) (fun c5 => ?_) (fun c5 => ?_)
    · have hf := ifT c5 hf
      exact KE2_0 _ (hx2 _ (Option.some.inj hf).symm).symm H locs hP hS ls (lv_sub hl [] rfl)
    · have hf := ifF c5 hf
      refine lv_aload_n hx hb dX4_join_10 rfl (lv_at hl 0 rfl) ?_
      refine gx_X4_15_1050 E hX hD hP dX4_join_11 ?_
      refine lv_iload_n hx hb dX4_join_14 rfl (lv_at hl 2 rfl) ?_
      refine lv_lconst hx hb dX4_join_15 lc_0 ?_
      obtain ⟨a6, ha6, hf⟩ := bdP hf
      refine p_last hx hb hX.1 hP hS (hA _ (PA_c (hD.1 _ _ dX_1141))) (hD.1 _ _ dX_1141) sgX4_join_W_raL1141 ha6 sgX4_join_W_aL1141 dX4_join_16 (fun H locs hP hS => ?_)
      refine lv_iconst hx hb dX4_join_17 ic_0 ?_
      refine lv_istore_n (lv' := [(3, .int 0), (0, .ref (ad 1050)), (1, .ref (ad 2000)), (2, .int y1)]) hx hb dX4_join_18 rfl hl (by decide) rfl (fun ls hl => ?_)
      have LP19 : ∀ (st19 : Int32 × (Nat → Int64)) (ex19 : ((Nat → Int64))), loop (xo_X4_join_W_L19 (σ.1 2027) (σ.2.2.1 1170) (σ.2.2.2.1 1140) y1) st19 = some ex19 → ∀ (H : Heap) (locs : List Loc), PIC D clsA G dsc ad (sgX4_join_W σ (st19.2)) H → va_S A s.heap H locs → ∀ (ls : Array Slot), lv_has ls 4 [(0, .ref (ad 1050)), (1, .ref (ad 2000)), (2, .int y1), (3, .int (st19.1))] → (∀ (a22 : Nat → Int64), ex19 = a22 → ∀ (H : Heap) (locs : List Loc), PIC D clsA G dsc ad (sgX4_join_W σ a22) H → va_S A s.heap H locs → ∀ (ls : Array Slot), lv_has ls 4 [(0, .ref (ad 1050)), (1, .ref (ad 2000)), (2, .int y1)] → W p l e rmX4_join_W s m args below meth c0 H locs 0 0 Q (F0 m 61 ls [])) → W p l e rmX4_join_W s m args below meth c0 H locs 0 0 Q (F0 m 19 ls []) := by
        refine loop_P (fun st19 ex19 o19 hf ih19 hx19 => ?_)
        obtain ⟨y7, a8⟩ := st19
        intro H locs (hP : PIC D clsA G dsc ad (sgX4_join_W σ a8) H) hS ls (hl : lv_has ls 4 [(0, .ref (ad 1050)), (1, .ref (ad 2000)), (2, .int y1), (3, .int y7)]) KE19_0
        dsimp only [xo_X4_join_W_L19] at hf
        refine lv_iload_n hx hb dX4_join_19 rfl (lv_at hl 3 rfl) ?_
        refine lv_aload_n hx hb dX4_join_20 rfl (lv_at hl 1 rfl) ?_
        obtain ⟨v9, u10, hf⟩ := bdP hf
        refine cx_X4_32_X3_worlds E hX hD hP hS hA (kxX3_worlds l D G hD sgX4_join_W_rzI2027 u10) ⟨rfl, rfl⟩ ⟨Nat.le_of_ble_eq_true rfl, Nat.le_of_ble_eq_true rfl⟩ ⟨Nat.zero_le _, Nat.zero_le _⟩ hl.1 (Nat.le_of_ble_eq_true rfl) dX4_join_21 (fun H locs hP hS => ?_)
        refine lv_icmp_ge (tgt := 61) hx hb dX4_join_24 (by decide) (fun c11 => ?_) (fun c11 => ?_)
        · have hf := ifT c11 hf
          exact KE19_0 _ (hx19 _ (Option.some.inj hf).symm).symm H locs hP hS ls (lv_sub hl [0, 1, 2] rfl)
        · have hf := ifF c11 hf
          refine lv_aload_n hx hb dX4_join_27 rfl (lv_at hl 0 rfl) ?_
          refine gx_X4_15_1050 E hX hD hP dX4_join_28 ?_
          refine lv_iload_n hx hb dX4_join_31 rfl (lv_at hl 2 rfl) ?_
          refine lv_dup2_11 hx hb dX4_join_32 rfl rfl ?_
          obtain ⟨v12, hv12, hf⟩ := bdP hf
          refine p_lald hx hb hX.1 hP (hD.1 _ _ dX_1141) sgX4_join_W_raL1141 hv12 dX4_join_33 ?_
          refine lv_aload_n hx hb dX4_join_34 rfl (lv_at hl 1 rfl) ?_
          refine lv_iload_n hx hb dX4_join_35 rfl (lv_at hl 3 rfl) ?_
          refine lv_iload_n hx hb dX4_join_36 rfl (lv_at hl 2 rfl) ?_
          obtain ⟨v13, u14, hf⟩ := bdP hf
          refine cx_X4_68_X4_agrees E hX hD hP hS hA (kxX4_agrees l D G hD sgX4_join_W_rzI2027 sgX4_join_W_raI1170 u14) ⟨rfl, rfl⟩ ⟨Nat.le_of_ble_eq_true rfl, Nat.le_of_ble_eq_true rfl⟩ ⟨Nat.zero_le _, Nat.zero_le _⟩ hl.1 (Nat.le_of_ble_eq_true rfl) dX4_join_37 (fun H locs hP hS => ?_)
          have J53 : ∀ (k15 : Int64) (k16 : Int64) (k17 : Int32), xo_X4_join_W_J53 y7 a8 k15 k16 k17 = some o19 → ∀ (H : Heap) (locs : List Loc), PIC D clsA G dsc ad (sgX4_join_W σ a8) H → va_S A s.heap H locs → ∀ (ls : Array Slot), lv_has ls 4 [(0, .ref (ad 1050)), (1, .ref (ad 2000)), (2, .int y1), (3, .int y7)] → W p l e rmX4_join_W s m args below meth c0 H locs 0 0 Q (F0 m 53 ls [.long k15, .long k16, .int k17, .ref (ad 1141)]) := by
            intro k15 k16 k17 hf H locs hP hS ls hl
            unfold xo_X4_join_W_J53 at hf
            refine lv_ladd hx hb dX4_join_53 ?_
            obtain ⟨a18, ha18, hf⟩ := bdP hf
            refine p_last hx hb hX.1 hP hS (hA _ (PA_c (hD.1 _ _ dX_1141))) (hD.1 _ _ dX_1141) sgX4_join_W_raL1141 ha18 sgX4_join_W_aL1141 dX4_join_54 (fun H locs hP hS => ?_)
            obtain ⟨v19, hv19, hf⟩ := bdP hf
            refine lv_iinc (v := v19) (lv' := [(3, .int v19), (0, .ref (ad 1050)), (1, .ref (ad 2000)), (2, .int y1)]) hx hb dX4_join_55 hl (k := 3) rfl (Option.some.inj hv19) (by decide) rfl (fun ls hl => ?_)
            refine lv_goto (tgt := 19) hx hb dX4_join_58 (by decide) ?_
            exact ih19 _ (Option.some.inj hf).symm H locs hP hS ls (lv_sub hl [1, 2, 3, 0] rfl) KE19_0
          refine lv_if_eq (tgt := 52) hx hb dX4_join_40 (by decide) (fun c20 => ?_) (fun c20 => ?_)
          · have hf := ifT c20 hf
            refine lv_lconst hx hb dX4_join_52 lc_0 ?_
            exact J53 0 v12 y1 hf H locs hP hS ls (lv_sub hl [0, 1, 2, 3] rfl)
          · have hf := ifF c20 hf
            refine lv_aload_n hx hb dX4_join_43 rfl (lv_at hl 0 rfl) ?_
            refine gx_X4_9_1050 E hX hD hP dX4_join_44 ?_
            refine lv_iload_n hx hb dX4_join_47 rfl (lv_at hl 3 rfl) ?_
            obtain ⟨v21, hv21, hf⟩ := bdP hf
            refine p_lald hx hb hX.1 hP (hD.1 _ _ dX_1140) sgX4_join_W_raL1140 hv21 dX4_join_48 ?_
            refine lv_goto (tgt := 53) hx hb dX4_join_49 (by decide) ?_
            exact J53 v21 v12 y1 hf H locs hP hS ls (lv_sub hl [0, 1, 2, 3] rfl)
      obtain ⟨ex19, hlp19, hf⟩ := bdP hf
      refine LP19 (0, a6) ex19 hlp19 H locs hP hS ls (lv_sub hl [1, 2, 3, 0] rfl) ?_
      intro a22 hex19 H locs hP hS ls hl
      subst ex19
      obtain ⟨v23, hv23, hf⟩ := bdP hf
      refine lv_iinc (v := v23) (lv' := [(2, .int v23), (0, .ref (ad 1050)), (1, .ref (ad 2000))]) hx hb dX4_join_61 hl (k := 2) rfl (Option.some.inj hv23) (by decide) rfl (fun ls hl => ?_)
      refine lv_goto (tgt := 2) hx hb dX4_join_64 (by decide) ?_
      exact ih2 _ (Option.some.inj hf).symm H locs hP hS ls (lv_sub hl [1, 2, 0] rfl) KE2_0
  obtain ⟨ex2, hlp2, hf⟩ := bdP hf
  refine LP2 (0, (σ.2.2.2.1 1141)) ex2 hlp2 H locs hP hS ls (lv_sub hl [1, 2, 0] rfl) ?_
  intro a24 hex2 H locs hP hS ls hl
  subst ex2
  cases hf
  rw [hQ]; exact g_vret hx hb hr hlk hP hS dX4_join_67
theorem kxX4_join_W (l : Launch) (D : va_G) (G : Nat → ClassId) {dsc : Nat → Option Dsc} {ad : Nat → Nat} {σ : Sto} {nr nw nu : Nat} (hD : XD dsc nr nw nu) {w_aL1141 : Nat → Int64} {z_Ld_size : Int32} (e_zI2027 : σ.1 2027 = z_Ld_size) {a_UNIT : Nat → Int32} (e_aI1170 : σ.2.2.1 1170 = a_UNIT) {a_W_world : Nat → Int64} (e_aL1140 : σ.2.2.2.1 1140 = a_W_world) {a_W_likely : Nat → Int64} (e_aL1141 : σ.2.2.2.1 1141 = a_W_likely) (hf : xo_X4_join_W z_Ld_size a_UNIT a_W_world a_W_likely = some w_aL1141) : CtG l D G dsc ad yX4_join (ws_ yX4_join cX4_join 4 (Option.none : Option Jvm.ClassFile.FieldType)) rmX4_join_W [.ref (ad 1050), .ref (ad 2000)] σ none (aL σ 1141 w_aL1141) := by
  subst e_zI2027
  subst e_aI1170
  subst e_aL1140
  subst e_aL1141
  exact p_ctG (by decide +kernel) (Nat.le_of_ble_eq_true rfl) (fun p e s m below meth c0 ls A E hP hX hA hS hl => wkX4_join_W E hX hD hA hf rfl hP hS hl)
end XWALK
