section MWALK
variable {p : Program} {l : Launch} {e : Env} {R : Room} {s : State} {m : MethodId} {args : Array Value} {below : List Frame} {meth : Method} {c0 : Code} {H : Heap} {locs : List Loc} {cells slots : Nat} {Q : State → Prop}
variable {cc : ByteArray} {nL : Nat} {ret : Option FieldType} {pc : Nat} {ls : Array Slot} {rest : List Value} {D : va_G} {A : Nat → Prop} {G : Nat → ClassId} {ad : Nat → Nat} {σ : Sto}
/-! firstOf(IJII)I -/
abbrev rmM_firstOf : Room := { frames := 3, cells := 0, slots := 0, locals := 73 }
set_option maxHeartbeats 4000000 in
theorem wkM_firstOf {x1 : Int32} {x2 : Int64} {x4 : Int32} {x5 : Int32} {r_ : Int32} (E : EN p s m args meth c0 RX16 cX16_firstOf 7 (Option.some Jvm.ClassFile.FieldType.int)) (hK : KK D clsA G s) (hA : ∀ q, PA dscM ad s.heap.size q → A q) (hf : mo_firstOf (σ.2.2.1 611) (σ.2.2.1 615) (σ.2.2.1 618) (σ.2.2.1 621) (σ.2.2.1 624) (σ.2.2.1 636) (σ.2.2.2.1 630) (σ.2.2.2.1 635) (σ.2.2.2.1 637) x1 x2 x4 x5 = some r_) (hQ : Q = MQ below (va_Qi (fun x (_ : Unit) => x = r_) (fun _ t => PM D G ad σ t.heap ∧ KK D clsA G t) A) args s 0 0 A) (hP : PM D G ad σ H) (hS : va_S A s.heap H locs) (hl : lv_has ls 7 [(0, .ref (ad 500)), (1, .int x1), (2, .long x2), (4, .int x4), (5, .int x5)]) : W p l e rmM_firstOf s m args below meth c0 H locs 0 0 Q (F0 m 0 ls []) := by
  obtain ⟨⟨hx, hb, hml, hown, hts⟩, hr, hlk⟩ := id E
  unfold mo_firstOf at hf
  refine lv_iconst hx hb dX16_firstOf_0 ic_0 ?_
  refine lv_istore (lv' := [(6, .int 0), (0, .ref (ad 500)), (1, .int x1), (2, .long x2), (4, .int x4), (5, .int x5)]) hx hb dX16_firstOf_1 hl (by decide) rfl (fun ls hl => ?_)
  have LP3 : ∀ (st3 : Int32) (ex3 : (Int32) ⊕ (Unit)), loop (mo_firstOf_L3 (σ.2.2.1 611) (σ.2.2.1 615) (σ.2.2.1 621) (σ.2.2.1 624) (σ.2.2.1 636) (σ.2.2.2.1 630) (σ.2.2.2.1 635) x1 x2 x4 x5) st3 = some ex3 → ∀ (H : Heap) (locs : List Loc), PM D G ad σ H → va_S A s.heap H locs → ∀ (ls : Array Slot), lv_has ls 7 [(0, .ref (ad 500)), (1, .int x1), (2, .long x2), (4, .int x4), (5, .int x5), (6, .int st3)] → (∀ (y10 : Int32), ex3 = (.inl y10) → ∀ (H : Heap) (locs : List Loc), PM D G ad σ H → va_S A s.heap H locs → ∀ (ls : Array Slot), lv_has ls 7 [(6, .int y10)] → W p l e rmM_firstOf s m args below meth c0 H locs 0 0 Q (F0 m 37 ls [])) → (ex3 = (.inr ()) → ∀ (H : Heap) (locs : List Loc), PM D G ad σ H → va_S A s.heap H locs → ∀ (ls : Array Slot), lv_has ls 7 [(0, .ref (ad 500)), (1, .int x1), (2, .long x2), (4, .int x4), (5, .int x5)] → W p l e rmM_firstOf s m args below meth c0 H locs 0 0 Q (F0 m 46 ls [])) → W p l e rmM_firstOf s m args below meth c0 H locs 0 0 Q (F0 m 3 ls []) := by
    refine loop_P (fun st3 ex3 o3 hf ih3 hx3 => ?_)
    obtain ⟨y1, rfl⟩ : ∃ z, z = st3 := ⟨_, rfl⟩
    intro H locs (hP : PM D G ad σ H) hS ls (hl : lv_has ls 7 [(0, .ref (ad 500)), (1, .int x1), (2, .long x2), (4, .int x4), (5, .int x5), (6, .int y1)]) KE3_0 KE3_1
    dsimp only [mo_firstOf_L3] at hf
    refine lv_iload hx hb dX16_firstOf_3 (lv_at hl 5 rfl) ?_
    refine lv_aload_n hx hb dX16_firstOf_5 rfl (lv_at hl 0 rfl) ?_
    obtain ⟨v2, u3, hf⟩ := bdP hf
    refine cM_places E hK hP hS hA rfl u3 ⟨Nat.le_of_ble_eq_true rfl, Nat.le_of_ble_eq_true rfl⟩ ⟨Nat.zero_le _, Nat.zero_le _⟩ hl.1 (Nat.le_of_ble_eq_true rfl) dX16_firstOf_6 (fun H locs hP hS => ?_)
    refine lv_icmp_ge (tgt := 46) hx hb dX16_firstOf_9 (by decide) (fun c4 => ?_) (fun c4 => ?_)
    · have hf := ifT c4 hf
      exact KE3_1  (hx3 _ (Option.some.inj hf).symm).symm H locs hP hS ls (lv_sub hl [0, 1, 2, 3, 4] rfl)
    · have hf := ifF c4 hf
      refine lv_aload_n hx hb dX16_firstOf_12 rfl (lv_at hl 0 rfl) ?_
      refine lv_iload_n hx hb dX16_firstOf_13 rfl (lv_at hl 1 rfl) ?_
      refine lv_lload_n hx hb dX16_firstOf_14 rfl (lv_at hl 2 rfl) ?_
      refine lv_iload hx hb dX16_firstOf_15 (lv_at hl 3 rfl) ?_
      refine lv_iload hx hb dX16_firstOf_17 (lv_at hl 5 rfl) ?_
      refine lv_iload hx hb dX16_firstOf_19 (lv_at hl 4 rfl) ?_
      obtain ⟨v5, u6, hf⟩ := bdP hf
      refine cM_goes E hK hP hS hA rfl rfl rfl rfl rfl rfl u6 ⟨Nat.le_of_ble_eq_true rfl, Nat.le_of_ble_eq_true rfl⟩ ⟨Nat.zero_le _, Nat.zero_le _⟩ hl.1 (Nat.le_of_ble_eq_true rfl) dX16_firstOf_21 (fun H locs hP hS => ?_)
      refine lv_aload_n hx hb dX16_firstOf_24 rfl (lv_at hl 0 rfl) ?_
      refine gM_30 E hK hP dX16_firstOf_25 ?_
      refine lv_iload_n hx hb dX16_firstOf_28 rfl (lv_at hl 1 rfl) ?_
      refine lv_iload hx hb dX16_firstOf_29 (lv_at hl 3 rfl) ?_
      refine lv_iadd hx hb dX16_firstOf_31 ?_
      obtain ⟨v7, hv7, hf⟩ := bdP hf
      refine p_lald hx hb hK hP dM_630 rfl hv7 dX16_firstOf_32 ?_
      refine W.lcmp hx hb dX16_firstOf_33 ?_
      refine lv_if_ne (tgt := 40) hx hb dX16_firstOf_34 (by decide) (fun c8 => ?_) (fun c8 => ?_)
      · have hf := ifF (mt (lgc_eq _ _).mpr c8) hf
        obtain ⟨v9, hv9, hf⟩ := bdP hf
        refine lv_iinc (v := v9) (lv' := [(6, .int v9), (0, .ref (ad 500)), (1, .int x1), (2, .long x2), (4, .int x4), (5, .int x5)]) hx hb dX16_firstOf_40 hl (k := 5) rfl (Option.some.inj hv9) (by decide) rfl (fun ls hl => ?_)
        refine lv_goto (tgt := 3) hx hb dX16_firstOf_43 (by decide) ?_
        exact ih3 _ (Option.some.inj hf).symm H locs hP hS ls (lv_sub hl [1, 2, 3, 4, 5, 0] rfl) KE3_0 KE3_1
      · have hf := ifT ((lgc_eq _ _).mp c8) hf
        exact KE3_0 _ (hx3 _ (Option.some.inj hf).symm).symm H locs hP hS ls (lv_sub hl [5] rfl)
  obtain ⟨ex3, hlp3, hf⟩ := bdP hf
  refine LP3 0 ex3 hlp3 H locs hP hS ls (lv_sub hl [1, 2, 3, 4, 5, 0] rfl) ?_ ?_
  · intro y10 hex3 H locs hP hS ls hl
    subst ex3
    dsimp only [sE_l, sE_r] at hf
    refine lv_iload hx hb dX16_firstOf_37 (lv_at hl 0 rfl) ?_
    cases hf
    rw [hQ]; exact p_iret hx hb hr hlk hK hP hS dX16_firstOf_39
  · intro  hex3 H locs hP hS ls hl
    subst ex3
    dsimp only [sE_l, sE_r] at hf
    refine lv_iconst hx hb dX16_firstOf_46 ic_0 ?_
    refine lv_istore (lv' := [(6, .int 0), (0, .ref (ad 500)), (1, .int x1), (2, .long x2), (4, .int x4), (5, .int x5)]) hx hb dX16_firstOf_47 hl (by decide) rfl (fun ls hl => ?_)
    have LP49 : ∀ (st49 : Int32) (ex49 : (Int32) ⊕ (Unit)), loop (mo_firstOf_L49 (σ.2.2.1 611) (σ.2.2.1 618) (σ.2.2.1 624) (σ.2.2.2.1 630) (σ.2.2.2.1 637) x1 x2 x4 x5) st49 = some ex49 → ∀ (H : Heap) (locs : List Loc), PM D G ad σ H → va_S A s.heap H locs → ∀ (ls : Array Slot), lv_has ls 7 [(0, .ref (ad 500)), (1, .int x1), (2, .long x2), (4, .int x4), (5, .int x5), (6, .int st49)] → (∀ (y24 : Int32), ex49 = (.inl y24) → ∀ (H : Heap) (locs : List Loc), PM D G ad σ H → va_S A s.heap H locs → ∀ (ls : Array Slot), lv_has ls 7 [(6, .int y24)] → W p l e rmM_firstOf s m args below meth c0 H locs 0 0 Q (F0 m 109 ls [])) → (ex49 = (.inr ()) → ∀ (H : Heap) (locs : List Loc), PM D G ad σ H → va_S A s.heap H locs → ∀ (ls : Array Slot), lv_has ls 7 [] → W p l e rmM_firstOf s m args below meth c0 H locs 0 0 Q (F0 m 121 ls [])) → W p l e rmM_firstOf s m args below meth c0 H locs 0 0 Q (F0 m 49 ls []) := by
      refine loop_P (fun st49 ex49 o49 hf ih49 hx49 => ?_)
      obtain ⟨y11, rfl⟩ : ∃ z, z = st49 := ⟨_, rfl⟩
      intro H locs (hP : PM D G ad σ H) hS ls (hl : lv_has ls 7 [(0, .ref (ad 500)), (1, .int x1), (2, .long x2), (4, .int x4), (5, .int x5), (6, .int y11)]) KE49_0 KE49_1
      dsimp only [mo_firstOf_L49] at hf
      refine lv_iload hx hb dX16_firstOf_49 (lv_at hl 5 rfl) ?_
      refine lv_aload_n hx hb dX16_firstOf_51 rfl (lv_at hl 0 rfl) ?_
      refine gM_11 E hK hP dX16_firstOf_52 ?_
      refine lv_iconst hx hb dX16_firstOf_55 ic_5 ?_
      obtain ⟨v12, hv12, hf⟩ := bdP hf
      refine p_iald hx hb hK hP dM_611 rfl hv12 dX16_firstOf_56 ?_
      refine lv_icmp_ge (tgt := 121) hx hb dX16_firstOf_57 (by decide) (fun c13 => ?_) (fun c13 => ?_)
      · have hf := ifT c13 hf
        exact KE49_1  (hx49 _ (Option.some.inj hf).symm).symm H locs hP hS ls (lv_sub hl [] rfl)
      · have hf := ifF c13 hf
        refine lv_aload_n hx hb dX16_firstOf_60 rfl (lv_at hl 0 rfl) ?_
        refine lv_iload hx hb dX16_firstOf_61 (lv_at hl 5 rfl) ?_
        refine lv_iload hx hb dX16_firstOf_63 (lv_at hl 3 rfl) ?_
        refine lv_iload hx hb dX16_firstOf_65 (lv_at hl 4 rfl) ?_
        obtain ⟨v14, u15, hf⟩ := bdP hf
        refine cM_isSold E hK hP hS hA rfl rfl u15 ⟨Nat.le_of_ble_eq_true rfl, Nat.le_of_ble_eq_true rfl⟩ ⟨Nat.zero_le _, Nat.zero_le _⟩ hl.1 (Nat.le_of_ble_eq_true rfl) dX16_firstOf_67 (fun H locs hP hS => ?_)
        have J115 : mo_firstOf_J115 y11 = some o49 → ∀ (H : Heap) (locs : List Loc), PM D G ad σ H → va_S A s.heap H locs → ∀ (ls : Array Slot), lv_has ls 7 [(0, .ref (ad 500)), (1, .int x1), (2, .long x2), (4, .int x4), (5, .int x5), (6, .int y11)] → W p l e rmM_firstOf s m args below meth c0 H locs 0 0 Q (F0 m 115 ls []) := by
          intro  hf H locs hP hS ls hl
          unfold mo_firstOf_J115 at hf
          obtain ⟨v16, hv16, hf⟩ := bdP hf
          refine lv_iinc (v := v16) (lv' := [(6, .int v16), (0, .ref (ad 500)), (1, .int x1), (2, .long x2), (4, .int x4), (5, .int x5)]) hx hb dX16_firstOf_115 hl (k := 5) rfl (Option.some.inj hv16) (by decide) rfl (fun ls hl => ?_)
          refine lv_goto (tgt := 49) hx hb dX16_firstOf_118 (by decide) ?_
          exact ih49 _ (Option.some.inj hf).symm H locs hP hS ls (lv_sub hl [1, 2, 3, 4, 5, 0] rfl) KE49_0 KE49_1
        refine lv_if_eq (tgt := 115) hx hb dX16_firstOf_70 (by decide) (fun c17 => ?_) (fun c17 => ?_)
        · have hf := ifT c17 hf
          exact J115  hf H locs hP hS ls (lv_sub hl [0, 1, 2, 3, 4, 5] rfl)
        · have hf := ifF c17 hf
          refine lv_aload_n hx hb dX16_firstOf_73 rfl (lv_at hl 0 rfl) ?_
          refine lv_lload_n hx hb dX16_firstOf_74 rfl (lv_at hl 2 rfl) ?_
          refine lv_aload_n hx hb dX16_firstOf_75 rfl (lv_at hl 0 rfl) ?_
          refine gM_18 E hK hP dX16_firstOf_76 ?_
          refine lv_iconst hx hb dX16_firstOf_79 ic_3 ?_
          refine lv_iload hx hb dX16_firstOf_80 (lv_at hl 5 rfl) ?_
          refine lv_imul hx hb dX16_firstOf_82 ?_
          refine lv_iconst hx hb dX16_firstOf_83 ic_2 ?_
          refine lv_iadd hx hb dX16_firstOf_84 ?_
          obtain ⟨v18, hv18, hf⟩ := bdP hf
          refine p_iald hx hb hK hP dM_618 rfl hv18 dX16_firstOf_85 ?_
          refine lv_aload_n hx hb dX16_firstOf_86 rfl (lv_at hl 0 rfl) ?_
          refine gM_37 E hK hP dX16_firstOf_87 ?_
          refine lv_iload hx hb dX16_firstOf_90 (lv_at hl 5 rfl) ?_
          obtain ⟨v19, hv19, hf⟩ := bdP hf
          refine p_lald hx hb hK hP dM_637 rfl hv19 dX16_firstOf_92 ?_
          obtain ⟨v20, u21, hf⟩ := bdP hf
          refine cM_after E hK hP hS hA u21 ⟨Nat.le_of_ble_eq_true rfl, Nat.le_of_ble_eq_true rfl⟩ ⟨Nat.zero_le _, Nat.zero_le _⟩ hl.1 (Nat.le_of_ble_eq_true rfl) dX16_firstOf_93 (fun H locs hP hS => ?_)
          refine lv_aload_n hx hb dX16_firstOf_96 rfl (lv_at hl 0 rfl) ?_
          refine gM_30 E hK hP dX16_firstOf_97 ?_
          refine lv_iload_n hx hb dX16_firstOf_100 rfl (lv_at hl 1 rfl) ?_
          refine lv_iload hx hb dX16_firstOf_101 (lv_at hl 3 rfl) ?_
          refine lv_iadd hx hb dX16_firstOf_103 ?_
          obtain ⟨v22, hv22, hf⟩ := bdP hf
          refine p_lald hx hb hK hP dM_630 rfl hv22 dX16_firstOf_104 ?_
          refine W.lcmp hx hb dX16_firstOf_105 ?_
          refine lv_if_ne (tgt := 115) hx hb dX16_firstOf_106 (by decide) (fun c23 => ?_) (fun c23 => ?_)
          · have hf := ifF (mt (lgc_eq _ _).mpr c23) hf
            exact J115  hf H locs hP hS ls (lv_sub hl [0, 1, 2, 3, 4, 5] rfl)
          · have hf := ifT ((lgc_eq _ _).mp c23) hf
            exact KE49_0 _ (hx49 _ (Option.some.inj hf).symm).symm H locs hP hS ls (lv_sub hl [5] rfl)
    obtain ⟨ex49, hlp49, hf⟩ := bdP hf
    refine LP49 0 ex49 hlp49 H locs hP hS ls (lv_sub hl [1, 2, 3, 4, 5, 0] rfl) ?_ ?_
    · intro y24 hex49 H locs hP hS ls hl
      subst ex49
      dsimp only [sE_l, sE_r] at hf
      refine lv_bipush hx hb dX16_firstOf_109 bp_100 ?_
      refine lv_iload hx hb dX16_firstOf_111 (lv_at hl 0 rfl) ?_
      refine lv_iadd hx hb dX16_firstOf_113 ?_
      cases hf
      rw [hQ]; exact p_iret hx hb hr hlk hK hP hS dX16_firstOf_114
    · intro  hex49 H locs hP hS ls hl
      subst ex49
      dsimp only [sE_l, sE_r] at hf
      refine lv_bipush hx hb dX16_firstOf_121 bp_m2 ?_
      cases hf
      rw [hQ]; exact p_iret hx hb hr hlk hK hP hS dX16_firstOf_123
theorem kM_firstOf (l : Launch) (D : va_G) (G : Nat → ClassId) (ad : Nat → Nat) (σ : Sto) {x1 : Int32} {x2 : Int64} {x4 : Int32} {x5 : Int32} {r_ : Int32} (hf : mo_firstOf (σ.2.2.1 611) (σ.2.2.1 615) (σ.2.2.1 618) (σ.2.2.1 621) (σ.2.2.1 624) (σ.2.2.1 636) (σ.2.2.2.1 630) (σ.2.2.2.1 635) (σ.2.2.2.1 637) x1 x2 x4 x5 = some r_) : CtI l D clsA G dscM ad yX16_firstOf (ws_ yX16_firstOf cX16_firstOf 7 (Option.some Jvm.ClassFile.FieldType.int)) rmM_firstOf [.ref (ad 500), .int x1, .long x2, .int x4, .int x5] σ r_ σ :=
  p_ctI (by decide +kernel) (Nat.le_of_ble_eq_true rfl) (fun p e s m below meth c0 ls A E hP hK hA hS hl => wkM_firstOf E hK hA hf rfl hP hS hl)
theorem cM_firstOf (E : EN p s m args meth c0 RX16 cc nL ret) (hK : KK D clsA G s) (hP : PM D G ad σ H) (hS : va_S A s.heap H locs) (hA : ∀ q, PA dscM ad s.heap.size q → A q) {x1 : Int32} {x2 : Int64} {x4 : Int32} {x5 : Int32} {r_ : Int32} {a_many : Nat → Int32} (e_aI611 : σ.2.2.1 611 = a_many) {a_road : Nat → Int32} (e_aI615 : σ.2.2.1 615 = a_road) {a_word : Nat → Int32} (e_aI618 : σ.2.2.1 618 = a_word) {a_between : Nat → Int32} (e_aI621 : σ.2.2.1 621 = a_between) {a_three : Nat → Int32} (e_aI624 : σ.2.2.1 624 = a_three) {a_isNews : Nat → Int32} (e_aI636 : σ.2.2.1 636 = a_isNews) {a_value : Nat → Int64} (e_aL630 : σ.2.2.2.1 630 = a_value) {a_coming : Nat → Int64} (e_aL635 : σ.2.2.2.1 635 = a_coming) {a_bought : Nat → Int64} (e_aL637 : σ.2.2.2.1 637 = a_bought) (hu : mo_firstOf a_many a_road a_word a_between a_three a_isNews a_value a_coming a_bought x1 x2 x4 x5 = some r_) (hR : rmM_firstOf.frames + 1 ≤ R.frames ∧ 8 + (7 + 11) + rmM_firstOf.locals ≤ R.locals) (hcs : cells ≤ R.cells ∧ slots ≤ R.slots) (hsz : ls.size = nL) (hW : (rest.map fun v => v.category).sum ≤ 8) (hdg : decode cc pc = .ok (.invokevirtual 343, 3)) (kk : ∀ (H1 : Heap) (locs1 : List Loc), PM D G ad σ H1 → va_S A s.heap H1 locs1 → W p l e R s m args below meth c0 H1 locs1 cells slots Q (F0 m (pc + 3) ls (.int r_ :: rest))) : W p l e R s m args below meth c0 H locs cells slots Q (F0 m pc ls (.int x5 :: .int x4 :: .long x2 :: .int x1 :: .ref (ad 500) :: rest)) := by
  subst e_aI611
  subst e_aI615
  subst e_aI618
  subst e_aI621
  subst e_aI624
  subst e_aI636
  subst e_aL630
  subst e_aL635
  subst e_aL637
  exact p_callI (As := [.int x1, .long x2, .int x4, .int x5]) (rest := rest) E.1 hK hP hS hA (kM_firstOf l D G ad σ hu) (cwV 4 E.1.2.2.2.2 (lw_V q2084 q2086 qs97 q142 q2087) rfl rfl rfl (by decide +kernel) hR) dM_500 rfl rfl rfl hsz rfl hW hdg hcs kk
/-! isSeen(II)Z -/
abbrev rmM_isSeen : Room := { frames := 1, cells := 0, slots := 0, locals := 22 }
set_option maxHeartbeats 4000000 in
theorem wkM_isSeen {x1 : Int32} {x2 : Int32} {r_ : Int32} (E : EN p s m args meth c0 RX16 cX16_isSeen 4 (Option.some Jvm.ClassFile.FieldType.boolean)) (hK : KK D clsA G s) (hA : ∀ q, PA dscM ad s.heap.size q → A q) (hf : mo_isSeen (σ.2.2.1 611) (σ.2.2.1 620) (σ.2.2.1 624) x1 x2 = some r_) (hQ : Q = MQ below (va_Qi (fun x (_ : Unit) => x = r_) (fun _ t => PM D G ad σ t.heap ∧ KK D clsA G t) A) args s 0 0 A) (hP : PM D G ad σ H) (hS : va_S A s.heap H locs) (hl : lv_has ls 4 [(0, .ref (ad 500)), (1, .int x1), (2, .int x2)]) : W p l e rmM_isSeen s m args below meth c0 H locs 0 0 Q (F0 m 0 ls []) := by
  obtain ⟨⟨hx, hb, hml, hown, hts⟩, hr, hlk⟩ := id E
  unfold mo_isSeen at hf
  refine lv_iconst hx hb dX16_isSeen_0 ic_0 ?_
  refine lv_istore_n (lv' := [(3, .int 0), (0, .ref (ad 500)), (1, .int x1), (2, .int x2)]) hx hb dX16_isSeen_1 rfl hl (by decide) rfl (fun ls hl => ?_)
  have LP2 : ∀ (st2 : Int32) (ex2 : (Unit) ⊕ (Unit)), loop (mo_isSeen_L2 (σ.2.2.1 611) (σ.2.2.1 620) (σ.2.2.1 624) x1 x2) st2 = some ex2 → ∀ (H : Heap) (locs : List Loc), PM D G ad σ H → va_S A s.heap H locs → ∀ (ls : Array Slot), lv_has ls 4 [(0, .ref (ad 500)), (1, .int x1), (2, .int x2), (3, .int st2)] → (ex2 = (.inl (())) → ∀ (H : Heap) (locs : List Loc), PM D G ad σ H → va_S A s.heap H locs → ∀ (ls : Array Slot), lv_has ls 4 [] → W p l e rmM_isSeen s m args below meth c0 H locs 0 0 Q (F0 m 33 ls [])) → (ex2 = (.inr ()) → ∀ (H : Heap) (locs : List Loc), PM D G ad σ H → va_S A s.heap H locs → ∀ (ls : Array Slot), lv_has ls 4 [] → W p l e rmM_isSeen s m args below meth c0 H locs 0 0 Q (F0 m 41 ls [])) → W p l e rmM_isSeen s m args below meth c0 H locs 0 0 Q (F0 m 2 ls []) := by
    refine loop_P (fun st2 ex2 o2 hf ih2 hx2 => ?_)
    obtain ⟨y1, rfl⟩ : ∃ z, z = st2 := ⟨_, rfl⟩
    intro H locs (hP : PM D G ad σ H) hS ls (hl : lv_has ls 4 [(0, .ref (ad 500)), (1, .int x1), (2, .int x2), (3, .int y1)]) KE2_0 KE2_1
    dsimp only [mo_isSeen_L2] at hf
    refine lv_iload_n hx hb dX16_isSeen_2 rfl (lv_at hl 3 rfl) ?_
    refine lv_aload_n hx hb dX16_isSeen_3 rfl (lv_at hl 0 rfl) ?_
    obtain ⟨v2, u3, hf⟩ := bdP hf
    refine cM_doubts E hK hP hS hA rfl u3 ⟨Nat.le_of_ble_eq_true rfl, Nat.le_of_ble_eq_true rfl⟩ ⟨Nat.zero_le _, Nat.zero_le _⟩ hl.1 (Nat.le_of_ble_eq_true rfl) dX16_isSeen_4 (fun H locs hP hS => ?_)
    refine lv_icmp_ge (tgt := 41) hx hb dX16_isSeen_7 (by decide) (fun c4 => ?_) (fun c4 => ?_)
    · have hf := ifT c4 hf
      exact KE2_1  (hx2 _ (Option.some.inj hf).symm).symm H locs hP hS ls (lv_sub hl [] rfl)
    · have hf := ifF c4 hf
      refine lv_aload_n hx hb dX16_isSeen_10 rfl (lv_at hl 0 rfl) ?_
      refine gM_20 E hK hP dX16_isSeen_11 ?_
      refine lv_iload_n hx hb dX16_isSeen_14 rfl (lv_at hl 1 rfl) ?_
      obtain ⟨v5, hv5, hf⟩ := bdP hf
      refine p_iald hx hb hK hP dM_620 rfl hv5 dX16_isSeen_15 ?_
      refine lv_iload_n hx hb dX16_isSeen_16 rfl (lv_at hl 3 rfl) ?_
      refine lv_ishr hx hb dX16_isSeen_17 ?_
      refine lv_iconst hx hb dX16_isSeen_18 ic_1 ?_
      refine lv_iand hx hb dX16_isSeen_19 ?_
      refine lv_iconst hx hb dX16_isSeen_20 ic_1 ?_
      have J35 : mo_isSeen_J35 y1 = some o2 → ∀ (H : Heap) (locs : List Loc), PM D G ad σ H → va_S A s.heap H locs → ∀ (ls : Array Slot), lv_has ls 4 [(0, .ref (ad 500)), (1, .int x1), (2, .int x2), (3, .int y1)] → W p l e rmM_isSeen s m args below meth c0 H locs 0 0 Q (F0 m 35 ls []) := by
        intro  hf H locs hP hS ls hl
        unfold mo_isSeen_J35 at hf
        obtain ⟨v6, hv6, hf⟩ := bdP hf
        refine lv_iinc (v := v6) (lv' := [(3, .int v6), (0, .ref (ad 500)), (1, .int x1), (2, .int x2)]) hx hb dX16_isSeen_35 hl (k := 3) rfl (Option.some.inj hv6) (by decide) rfl (fun ls hl => ?_)
        refine lv_goto (tgt := 2) hx hb dX16_isSeen_38 (by decide) ?_
        exact ih2 _ (Option.some.inj hf).symm H locs hP hS ls (lv_sub hl [1, 2, 3, 0] rfl) KE2_0 KE2_1
      refine lv_icmp_ne (tgt := 35) hx hb dX16_isSeen_21 (by decide) (fun c7 => ?_) (fun c7 => ?_)
      · have hf := ifF c7 hf
        exact J35  hf H locs hP hS ls (lv_sub hl [0, 1, 2, 3] rfl)
      · have hf := ifT c7 hf
        refine lv_aload_n hx hb dX16_isSeen_24 rfl (lv_at hl 0 rfl) ?_
        refine lv_iload_n hx hb dX16_isSeen_25 rfl (lv_at hl 2 rfl) ?_
        refine lv_iload_n hx hb dX16_isSeen_26 rfl (lv_at hl 3 rfl) ?_
        obtain ⟨v8, u9, hf⟩ := bdP hf
        refine cM_digit E hK hP hS hA rfl u9 ⟨Nat.le_of_ble_eq_true rfl, Nat.le_of_ble_eq_true rfl⟩ ⟨Nat.zero_le _, Nat.zero_le _⟩ hl.1 (Nat.le_of_ble_eq_true rfl) dX16_isSeen_27 (fun H locs hP hS => ?_)
        refine lv_if_ne (tgt := 35) hx hb dX16_isSeen_30 (by decide) (fun c10 => ?_) (fun c10 => ?_)
        · have hf := ifF c10 hf
          exact J35  hf H locs hP hS ls (lv_sub hl [0, 1, 2, 3] rfl)
        · have hf := ifT c10 hf
          exact KE2_0  (hx2 _ (Option.some.inj hf).symm).symm H locs hP hS ls (lv_sub hl [] rfl)
  obtain ⟨ex2, hlp2, hf⟩ := bdP hf
  refine LP2 0 ex2 hlp2 H locs hP hS ls (lv_sub hl [1, 2, 3, 0] rfl) ?_ ?_
  · intro  hex2 H locs hP hS ls hl
    subst ex2
    dsimp only [sE_l, sE_r] at hf
    refine lv_iconst hx hb dX16_isSeen_33 ic_0 ?_
    cases hf
    rw [hQ]; exact p_zret hx hb hr hlk hK hP hS rfl dX16_isSeen_34
  · intro  hex2 H locs hP hS ls hl
    subst ex2
    dsimp only [sE_l, sE_r] at hf
    refine lv_iconst hx hb dX16_isSeen_41 ic_1 ?_
    cases hf
    rw [hQ]; exact p_zret hx hb hr hlk hK hP hS rfl dX16_isSeen_42
theorem kM_isSeen (l : Launch) (D : va_G) (G : Nat → ClassId) (ad : Nat → Nat) (σ : Sto) {x1 : Int32} {x2 : Int32} {r_ : Int32} (hf : mo_isSeen (σ.2.2.1 611) (σ.2.2.1 620) (σ.2.2.1 624) x1 x2 = some r_) : CtI l D clsA G dscM ad yX16_isSeen (ws_ yX16_isSeen cX16_isSeen 4 (Option.some Jvm.ClassFile.FieldType.boolean)) rmM_isSeen [.ref (ad 500), .int x1, .int x2] σ r_ σ :=
  p_ctI (by decide +kernel) (Nat.le_of_ble_eq_true rfl) (fun p e s m below meth c0 ls A E hP hK hA hS hl => wkM_isSeen E hK hA hf rfl hP hS hl)
theorem cM_isSeen (E : EN p s m args meth c0 RX16 cc nL ret) (hK : KK D clsA G s) (hP : PM D G ad σ H) (hS : va_S A s.heap H locs) (hA : ∀ q, PA dscM ad s.heap.size q → A q) {x1 : Int32} {x2 : Int32} {r_ : Int32} {a_many : Nat → Int32} (e_aI611 : σ.2.2.1 611 = a_many) {a_seen : Nat → Int32} (e_aI620 : σ.2.2.1 620 = a_seen) {a_three : Nat → Int32} (e_aI624 : σ.2.2.1 624 = a_three) (hu : mo_isSeen a_many a_seen a_three x1 x2 = some r_) (hR : rmM_isSeen.frames + 1 ≤ R.frames ∧ 8 + (4 + 11) + rmM_isSeen.locals ≤ R.locals) (hcs : cells ≤ R.cells ∧ slots ≤ R.slots) (hsz : ls.size = nL) (hW : (rest.map fun v => v.category).sum ≤ 8) (hdg : decode cc pc = .ok (.invokevirtual 326, 3)) (kk : ∀ (H1 : Heap) (locs1 : List Loc), PM D G ad σ H1 → va_S A s.heap H1 locs1 → W p l e R s m args below meth c0 H1 locs1 cells slots Q (F0 m (pc + 3) ls (.int r_ :: rest))) : W p l e R s m args below meth c0 H locs cells slots Q (F0 m pc ls (.int x2 :: .int x1 :: .ref (ad 500) :: rest)) := by
  subst e_aI611
  subst e_aI620
  subst e_aI624
  exact p_callI (As := [.int x1, .int x2]) (rest := rest) E.1 hK hP hS hA (kM_isSeen l D G ad σ hu) (cwV 2 E.1.2.2.2.2 (lw_V q2055 q2057 qs90 q142 q2058) rfl rfl rfl (by decide +kernel) hR) dM_500 rfl rfl rfl hsz rfl hW hdg hcs kk
/-! least(IJII)J -/
abbrev rmM_least : Room := { frames := 3, cells := 0, slots := 0, locals := 73 }
set_option maxHeartbeats 4000000 in
theorem wkM_least {x1 : Int32} {x2 : Int64} {x4 : Int32} {x5 : Int32} {r_ : Int64} (E : EN p s m args meth c0 RX16 cX16_least 11 (Option.some Jvm.ClassFile.FieldType.long)) (hK : KK D clsA G s) (hA : ∀ q, PA dscM ad s.heap.size q → A q) (hf : mo_least (σ.2.2.1 611) (σ.2.2.1 615) (σ.2.2.1 618) (σ.2.2.1 621) (σ.2.2.1 624) (σ.2.2.1 636) (σ.2.2.2.1 630) (σ.2.2.2.1 635) (σ.2.2.2.1 637) x1 x2 x4 x5 = some r_) (hQ : Q = MQ below (va_Ql (fun x (_ : Unit) => x = r_) (fun _ t => PM D G ad σ t.heap ∧ KK D clsA G t) A) args s 0 0 A) (hP : PM D G ad σ H) (hS : va_S A s.heap H locs) (hl : lv_has ls 11 [(0, .ref (ad 500)), (1, .int x1), (2, .long x2), (4, .int x4), (5, .int x5)]) : W p l e rmM_least s m args below meth c0 H locs 0 0 Q (F0 m 0 ls []) := by
  obtain ⟨⟨hx, hb, hml, hown, hts⟩, hr, hlk⟩ := id E
  unfold mo_least at hf
  refine lv_ldc2 hx hb hown (hts _ q2050) dX16_least_0 ?_
  refine lv_lstore (lv' := [(6, .long 4000000000000000000), (0, .ref (ad 500)), (1, .int x1), (2, .long x2), (4, .int x4), (5, .int x5)]) hx hb dX16_least_3 hl (by decide) rfl (fun ls hl => ?_)
  refine lv_iconst hx hb dX16_least_5 ic_0 ?_
  refine lv_istore (lv' := [(8, .int 0), (6, .long 4000000000000000000), (0, .ref (ad 500)), (1, .int x1), (2, .long x2), (4, .int x4), (5, .int x5)]) hx hb dX16_least_6 hl (by decide) rfl (fun ls hl => ?_)
  have LP8 : ∀ (st8 : Int64 × Int32) (ex8 : (Int64)), loop (mo_least_L8 (σ.2.2.1 611) (σ.2.2.1 615) (σ.2.2.1 621) (σ.2.2.1 624) (σ.2.2.1 636) (σ.2.2.2.1 630) (σ.2.2.2.1 635) x1 x2 x4 x5) st8 = some ex8 → ∀ (H : Heap) (locs : List Loc), PM D G ad σ H → va_S A s.heap H locs → ∀ (ls : Array Slot), lv_has ls 11 [(0, .ref (ad 500)), (1, .int x1), (2, .long x2), (4, .int x4), (5, .int x5), (6, .long (st8.1)), (8, .int (st8.2))] → (∀ (y11 : Int64), ex8 = y11 → ∀ (H : Heap) (locs : List Loc), PM D G ad σ H → va_S A s.heap H locs → ∀ (ls : Array Slot), lv_has ls 11 [(0, .ref (ad 500)), (2, .long x2), (4, .int x4), (5, .int x5), (6, .long y11)] → W p l e rmM_least s m args below meth c0 H locs 0 0 Q (F0 m 54 ls [])) → W p l e rmM_least s m args below meth c0 H locs 0 0 Q (F0 m 8 ls []) := by
    refine loop_P (fun st8 ex8 o8 hf ih8 hx8 => ?_)
    obtain ⟨y1, y2⟩ := st8
    intro H locs (hP : PM D G ad σ H) hS ls (hl : lv_has ls 11 [(0, .ref (ad 500)), (1, .int x1), (2, .long x2), (4, .int x4), (5, .int x5), (6, .long y1), (8, .int y2)]) KE8_0
    dsimp only [mo_least_L8] at hf
    refine lv_iload hx hb dX16_least_8 (lv_at hl 6 rfl) ?_
    refine lv_aload_n hx hb dX16_least_10 rfl (lv_at hl 0 rfl) ?_
    obtain ⟨v3, u4, hf⟩ := bdP hf
    refine cM_places E hK hP hS hA rfl u4 ⟨Nat.le_of_ble_eq_true rfl, Nat.le_of_ble_eq_true rfl⟩ ⟨Nat.zero_le _, Nat.zero_le _⟩ hl.1 (Nat.le_of_ble_eq_true rfl) dX16_least_11 (fun H locs hP hS => ?_)
    refine lv_icmp_ge (tgt := 54) hx hb dX16_least_14 (by decide) (fun c5 => ?_) (fun c5 => ?_)
    · have hf := ifT c5 hf
      exact KE8_0 _ (hx8 _ (Option.some.inj hf).symm).symm H locs hP hS ls (lv_sub hl [0, 2, 3, 4, 5] rfl)
    · have hf := ifF c5 hf
      refine lv_aload_n hx hb dX16_least_17 rfl (lv_at hl 0 rfl) ?_
      refine lv_iload_n hx hb dX16_least_18 rfl (lv_at hl 1 rfl) ?_
      refine lv_lload_n hx hb dX16_least_19 rfl (lv_at hl 2 rfl) ?_
      refine lv_iload hx hb dX16_least_20 (lv_at hl 3 rfl) ?_
      refine lv_iload hx hb dX16_least_22 (lv_at hl 6 rfl) ?_
      refine lv_iload hx hb dX16_least_24 (lv_at hl 4 rfl) ?_
      obtain ⟨v6, u7, hf⟩ := bdP hf
      refine cM_goes E hK hP hS hA rfl rfl rfl rfl rfl rfl u7 ⟨Nat.le_of_ble_eq_true rfl, Nat.le_of_ble_eq_true rfl⟩ ⟨Nat.zero_le _, Nat.zero_le _⟩ hl.1 (Nat.le_of_ble_eq_true rfl) dX16_least_26 (fun H locs hP hS => ?_)
      refine lv_lstore (lv' := [(9, .long v6), (0, .ref (ad 500)), (1, .int x1), (2, .long x2), (4, .int x4), (5, .int x5), (6, .long y1), (8, .int y2)]) hx hb dX16_least_29 hl (by decide) rfl (fun ls hl => ?_)
      refine lv_lload hx hb dX16_least_31 (lv_at hl 0 rfl) ?_
      refine lv_lload hx hb dX16_least_33 (lv_at hl 6 rfl) ?_
      refine W.lcmp hx hb dX16_least_35 ?_
      have J46 : ∀ (k8 : Int64), mo_least_J46 y2 k8 = some o8 → ∀ (H : Heap) (locs : List Loc), PM D G ad σ H → va_S A s.heap H locs → ∀ (ls : Array Slot), lv_has ls 11 [(0, .ref (ad 500)), (1, .int x1), (2, .long x2), (4, .int x4), (5, .int x5), (8, .int y2)] → W p l e rmM_least s m args below meth c0 H locs 0 0 Q (F0 m 46 ls [.long k8]) := by
        intro k8 hf H locs hP hS ls hl
        unfold mo_least_J46 at hf
        refine lv_lstore (lv' := [(6, .long k8), (0, .ref (ad 500)), (1, .int x1), (2, .long x2), (4, .int x4), (5, .int x5), (8, .int y2)]) hx hb dX16_least_46 hl (by decide) rfl (fun ls hl => ?_)
        obtain ⟨v9, hv9, hf⟩ := bdP hf
        refine lv_iinc (v := v9) (lv' := [(8, .int v9), (6, .long k8), (0, .ref (ad 500)), (1, .int x1), (2, .long x2), (4, .int x4), (5, .int x5)]) hx hb dX16_least_48 hl (k := 6) rfl (Option.some.inj hv9) (by decide) rfl (fun ls hl => ?_)
        refine lv_goto (tgt := 8) hx hb dX16_least_51 (by decide) ?_
        exact ih8 _ (Option.some.inj hf).symm H locs hP hS ls (lv_sub hl [2, 3, 4, 5, 6, 1, 0] rfl) KE8_0
      refine lv_if_ge (tgt := 44) hx hb dX16_least_36 (by decide) (fun c10 => ?_) (fun c10 => ?_)
      · have hf := ifT ((lgc_ge _ _).mp c10) hf
        refine lv_lload hx hb dX16_least_44 (lv_at hl 6 rfl) ?_
        exact J46 y1 hf H locs hP hS ls (lv_sub hl [1, 2, 3, 4, 5, 7] rfl)
      · have hf := ifF (mt (lgc_ge _ _).mpr c10) hf
        refine lv_lload hx hb dX16_least_39 (lv_at hl 0 rfl) ?_
        refine lv_goto (tgt := 46) hx hb dX16_least_41 (by decide) ?_
        exact J46 v6 hf H locs hP hS ls (lv_sub hl [1, 2, 3, 4, 5, 7] rfl)
  obtain ⟨ex8, hlp8, hf⟩ := bdP hf
  refine LP8 (4000000000000000000, 0) ex8 hlp8 H locs hP hS ls (lv_sub hl [2, 3, 4, 5, 6, 1, 0] rfl) ?_
  intro y11 hex8 H locs hP hS ls hl
  subst ex8
  refine lv_iconst hx hb dX16_least_54 ic_0 ?_
  refine lv_istore (lv' := [(8, .int 0), (0, .ref (ad 500)), (2, .long x2), (4, .int x4), (5, .int x5), (6, .long y11)]) hx hb dX16_least_55 hl (by decide) rfl (fun ls hl => ?_)
  have LP57 : ∀ (st57 : Int64 × Int32) (ex57 : (Int64)), loop (mo_least_L57 (σ.2.2.1 611) (σ.2.2.1 618) (σ.2.2.1 624) (σ.2.2.2.1 637) x2 x4 x5) st57 = some ex57 → ∀ (H : Heap) (locs : List Loc), PM D G ad σ H → va_S A s.heap H locs → ∀ (ls : Array Slot), lv_has ls 11 [(0, .ref (ad 500)), (2, .long x2), (4, .int x4), (5, .int x5), (6, .long (st57.1)), (8, .int (st57.2))] → (∀ (y27 : Int64), ex57 = y27 → ∀ (H : Heap) (locs : List Loc), PM D G ad σ H → va_S A s.heap H locs → ∀ (ls : Array Slot), lv_has ls 11 [(6, .long y27)] → W p l e rmM_least s m args below meth c0 H locs 0 0 Q (F0 m 132 ls [])) → W p l e rmM_least s m args below meth c0 H locs 0 0 Q (F0 m 57 ls []) := by
    refine loop_P (fun st57 ex57 o57 hf ih57 hx57 => ?_)
    obtain ⟨y12, y13⟩ := st57
    intro H locs (hP : PM D G ad σ H) hS ls (hl : lv_has ls 11 [(0, .ref (ad 500)), (2, .long x2), (4, .int x4), (5, .int x5), (6, .long y12), (8, .int y13)]) KE57_0
    dsimp only [mo_least_L57] at hf
    refine lv_iload hx hb dX16_least_57 (lv_at hl 5 rfl) ?_
    refine lv_aload_n hx hb dX16_least_59 rfl (lv_at hl 0 rfl) ?_
    refine gM_11 E hK hP dX16_least_60 ?_
    refine lv_iconst hx hb dX16_least_63 ic_5 ?_
    obtain ⟨v14, hv14, hf⟩ := bdP hf
    refine p_iald hx hb hK hP dM_611 rfl hv14 dX16_least_64 ?_
    refine lv_icmp_ge (tgt := 132) hx hb dX16_least_65 (by decide) (fun c15 => ?_) (fun c15 => ?_)
    · have hf := ifT c15 hf
      exact KE57_0 _ (hx57 _ (Option.some.inj hf).symm).symm H locs hP hS ls (lv_sub hl [4] rfl)
    · have hf := ifF c15 hf
      refine lv_aload_n hx hb dX16_least_68 rfl (lv_at hl 0 rfl) ?_
      refine lv_iload hx hb dX16_least_69 (lv_at hl 5 rfl) ?_
      refine lv_iload hx hb dX16_least_71 (lv_at hl 2 rfl) ?_
      refine lv_iload hx hb dX16_least_73 (lv_at hl 3 rfl) ?_
      obtain ⟨v16, u17, hf⟩ := bdP hf
      refine cM_isSold E hK hP hS hA rfl rfl u17 ⟨Nat.le_of_ble_eq_true rfl, Nat.le_of_ble_eq_true rfl⟩ ⟨Nat.zero_le _, Nat.zero_le _⟩ hl.1 (Nat.le_of_ble_eq_true rfl) dX16_least_75 (fun H locs hP hS => ?_)
      have J126 : ∀ (y18 : Int64), mo_least_J126 y13 y18 = some o57 → ∀ (H : Heap) (locs : List Loc), PM D G ad σ H → va_S A s.heap H locs → ∀ (ls : Array Slot), lv_has ls 11 [(0, .ref (ad 500)), (2, .long x2), (4, .int x4), (5, .int x5), (6, .long y18), (8, .int y13)] → W p l e rmM_least s m args below meth c0 H locs 0 0 Q (F0 m 126 ls []) := by
        intro y18 hf H locs hP hS ls hl
        unfold mo_least_J126 at hf
        obtain ⟨v19, hv19, hf⟩ := bdP hf
        refine lv_iinc (v := v19) (lv' := [(8, .int v19), (0, .ref (ad 500)), (2, .long x2), (4, .int x4), (5, .int x5), (6, .long y18)]) hx hb dX16_least_126 hl (k := 5) rfl (Option.some.inj hv19) (by decide) rfl (fun ls hl => ?_)
        refine lv_goto (tgt := 57) hx hb dX16_least_129 (by decide) ?_
        exact ih57 _ (Option.some.inj hf).symm H locs hP hS ls (lv_sub hl [1, 2, 3, 4, 5, 0] rfl) KE57_0
      refine lv_if_ne (tgt := 84) hx hb dX16_least_78 (by decide) (fun c20 => ?_) (fun c20 => ?_)
      · have hf := ifF c20 hf
        refine lv_aload_n hx hb dX16_least_84 rfl (lv_at hl 0 rfl) ?_
        refine lv_lload_n hx hb dX16_least_85 rfl (lv_at hl 1 rfl) ?_
        refine lv_aload_n hx hb dX16_least_86 rfl (lv_at hl 0 rfl) ?_
        refine gM_18 E hK hP dX16_least_87 ?_
        refine lv_iconst hx hb dX16_least_90 ic_3 ?_
        refine lv_iload hx hb dX16_least_91 (lv_at hl 5 rfl) ?_
        refine lv_imul hx hb dX16_least_93 ?_
        refine lv_iconst hx hb dX16_least_94 ic_2 ?_
        refine lv_iadd hx hb dX16_least_95 ?_
        obtain ⟨v21, hv21, hf⟩ := bdP hf
        refine p_iald hx hb hK hP dM_618 rfl hv21 dX16_least_96 ?_
        refine lv_aload_n hx hb dX16_least_97 rfl (lv_at hl 0 rfl) ?_
        refine gM_37 E hK hP dX16_least_98 ?_
        refine lv_iload hx hb dX16_least_101 (lv_at hl 5 rfl) ?_
        obtain ⟨v22, hv22, hf⟩ := bdP hf
        refine p_lald hx hb hK hP dM_637 rfl hv22 dX16_least_103 ?_
        obtain ⟨v23, u24, hf⟩ := bdP hf
        refine cM_after E hK hP hS hA u24 ⟨Nat.le_of_ble_eq_true rfl, Nat.le_of_ble_eq_true rfl⟩ ⟨Nat.zero_le _, Nat.zero_le _⟩ hl.1 (Nat.le_of_ble_eq_true rfl) dX16_least_104 (fun H locs hP hS => ?_)
        refine lv_lstore (lv' := [(9, .long v23), (0, .ref (ad 500)), (2, .long x2), (4, .int x4), (5, .int x5), (6, .long y12), (8, .int y13)]) hx hb dX16_least_107 hl (by decide) rfl (fun ls hl => ?_)
        refine lv_lload hx hb dX16_least_109 (lv_at hl 0 rfl) ?_
        refine lv_lload hx hb dX16_least_111 (lv_at hl 5 rfl) ?_
        refine W.lcmp hx hb dX16_least_113 ?_
        have J124 : ∀ (k25 : Int64), mo_least_J124 y13 k25 = some o57 → ∀ (H : Heap) (locs : List Loc), PM D G ad σ H → va_S A s.heap H locs → ∀ (ls : Array Slot), lv_has ls 11 [(0, .ref (ad 500)), (2, .long x2), (4, .int x4), (5, .int x5), (8, .int y13)] → W p l e rmM_least s m args below meth c0 H locs 0 0 Q (F0 m 124 ls [.long k25]) := by
          intro k25 hf H locs hP hS ls hl
          unfold mo_least_J124 at hf
          refine lv_lstore (lv' := [(6, .long k25), (0, .ref (ad 500)), (2, .long x2), (4, .int x4), (5, .int x5), (8, .int y13)]) hx hb dX16_least_124 hl (by decide) rfl (fun ls hl => ?_)
          exact J126 k25 hf H locs hP hS ls (lv_sub hl [1, 2, 3, 4, 0, 5] rfl)
        refine lv_if_ge (tgt := 122) hx hb dX16_least_114 (by decide) (fun c26 => ?_) (fun c26 => ?_)
        · have hf := ifT ((lgc_ge _ _).mp c26) hf
          refine lv_lload hx hb dX16_least_122 (lv_at hl 5 rfl) ?_
          exact J124 y12 hf H locs hP hS ls (lv_sub hl [1, 2, 3, 4, 6] rfl)
        · have hf := ifF (mt (lgc_ge _ _).mpr c26) hf
          refine lv_lload hx hb dX16_least_117 (lv_at hl 0 rfl) ?_
          refine lv_goto (tgt := 124) hx hb dX16_least_119 (by decide) ?_
          exact J124 v23 hf H locs hP hS ls (lv_sub hl [1, 2, 3, 4, 6] rfl)
      · have hf := ifT c20 hf
        refine lv_goto (tgt := 126) hx hb dX16_least_81 (by decide) ?_
        exact J126 y12 hf H locs hP hS ls (lv_sub hl [0, 1, 2, 3, 4, 5] rfl)
  obtain ⟨ex57, hlp57, hf⟩ := bdP hf
  refine LP57 (y11, 0) ex57 hlp57 H locs hP hS ls (lv_sub hl [1, 2, 3, 4, 5, 0] rfl) ?_
  intro y27 hex57 H locs hP hS ls hl
  subst ex57
  refine lv_lload hx hb dX16_least_132 (lv_at hl 0 rfl) ?_
  cases hf
  rw [hQ]; exact p_lret hx hb hr hlk hK hP hS dX16_least_134
theorem kM_least (l : Launch) (D : va_G) (G : Nat → ClassId) (ad : Nat → Nat) (σ : Sto) {x1 : Int32} {x2 : Int64} {x4 : Int32} {x5 : Int32} {r_ : Int64} (hf : mo_least (σ.2.2.1 611) (σ.2.2.1 615) (σ.2.2.1 618) (σ.2.2.1 621) (σ.2.2.1 624) (σ.2.2.1 636) (σ.2.2.2.1 630) (σ.2.2.2.1 635) (σ.2.2.2.1 637) x1 x2 x4 x5 = some r_) : CtL l D clsA G dscM ad yX16_least (ws_ yX16_least cX16_least 11 (Option.some Jvm.ClassFile.FieldType.long)) rmM_least [.ref (ad 500), .int x1, .long x2, .int x4, .int x5] σ r_ σ :=
  p_ctL (by decide +kernel) (Nat.le_of_ble_eq_true rfl) (fun p e s m below meth c0 ls A E hP hK hA hS hl => wkM_least E hK hA hf rfl hP hS hl)
theorem cM_least (E : EN p s m args meth c0 RX16 cc nL ret) (hK : KK D clsA G s) (hP : PM D G ad σ H) (hS : va_S A s.heap H locs) (hA : ∀ q, PA dscM ad s.heap.size q → A q) {x1 : Int32} {x2 : Int64} {x4 : Int32} {x5 : Int32} {r_ : Int64} {a_many : Nat → Int32} (e_aI611 : σ.2.2.1 611 = a_many) {a_road : Nat → Int32} (e_aI615 : σ.2.2.1 615 = a_road) {a_word : Nat → Int32} (e_aI618 : σ.2.2.1 618 = a_word) {a_between : Nat → Int32} (e_aI621 : σ.2.2.1 621 = a_between) {a_three : Nat → Int32} (e_aI624 : σ.2.2.1 624 = a_three) {a_isNews : Nat → Int32} (e_aI636 : σ.2.2.1 636 = a_isNews) {a_value : Nat → Int64} (e_aL630 : σ.2.2.2.1 630 = a_value) {a_coming : Nat → Int64} (e_aL635 : σ.2.2.2.1 635 = a_coming) {a_bought : Nat → Int64} (e_aL637 : σ.2.2.2.1 637 = a_bought) (hu : mo_least a_many a_road a_word a_between a_three a_isNews a_value a_coming a_bought x1 x2 x4 x5 = some r_) (hR : rmM_least.frames + 1 ≤ R.frames ∧ 8 + (11 + 11) + rmM_least.locals ≤ R.locals) (hcs : cells ≤ R.cells ∧ slots ≤ R.slots) (hsz : ls.size = nL) (hW : (rest.map fun v => v.category).sum ≤ 8) (hdg : decode cc pc = .ok (.invokevirtual 339, 3)) (kk : ∀ (H1 : Heap) (locs1 : List Loc), PM D G ad σ H1 → va_S A s.heap H1 locs1 → W p l e R s m args below meth c0 H1 locs1 cells slots Q (F0 m (pc + 3) ls (.long r_ :: rest))) : W p l e R s m args below meth c0 H locs cells slots Q (F0 m pc ls (.int x5 :: .int x4 :: .long x2 :: .int x1 :: .ref (ad 500) :: rest)) := by
  subst e_aI611
  subst e_aI615
  subst e_aI618
  subst e_aI621
  subst e_aI624
  subst e_aI636
  subst e_aL630
  subst e_aL635
  subst e_aL637
  exact p_callL (As := [.int x1, .long x2, .int x4, .int x5]) (rest := rest) E.1 hK hP hS hA (kM_least l D G ad σ hu) (cwV 4 E.1.2.2.2.2 (lw_V q2072 q2074 qs94 q142 q2075) rfl rfl rfl (by decide +kernel) hR) dM_500 rfl rfl rfl hsz rfl hW hdg hcs kk
/-! layOne(IZI)V -/
def sgM_layOne (σ : Sto) (w0 : Nat → Int32) (w1 : Nat → Int32) (w2 : Nat → Int64) (w3 : Nat → Int64) (w4 : Nat → Int64) : Sto := aL (aL (aL (aI (aI σ 631 w0) 636 w1) 630 w2) 635 w3) 637 w4
theorem sgM_layOne_self (σ : Sto) : sgM_layOne σ (σ.2.2.1 631) (σ.2.2.1 636) (σ.2.2.2.1 630) (σ.2.2.2.1 635) (σ.2.2.2.1 637) = σ := by
  unfold sgM_layOne
  simp only [zI_self, zL_self, aI_self, aL_self]
theorem sgM_layOne_aI631 {σ : Sto} {w0 : Nat → Int32} {w1 : Nat → Int32} {w2 : Nat → Int64} {w3 : Nat → Int64} {w4 : Nat → Int64} {g : Nat → Int32} : aI (sgM_layOne σ w0 w1 w2 w3 w4) 631 g = sgM_layOne σ g w1 w2 w3 w4 := (cm_aI_aL _ _ _ _ _).trans (congrArg (fun z => aL z 637 w4) ((cm_aI_aL _ _ _ _ _).trans (congrArg (fun z => aL z 635 w3) ((cm_aI_aL _ _ _ _ _).trans (congrArg (fun z => aL z 630 w2) ((aI_comm _ (by decide) _ _).trans (congrArg (fun z => aI z 636 w1) (aI_aI _ 631 _ _))))))))
theorem sgM_layOne_aI636 {σ : Sto} {w0 : Nat → Int32} {w1 : Nat → Int32} {w2 : Nat → Int64} {w3 : Nat → Int64} {w4 : Nat → Int64} {g : Nat → Int32} : aI (sgM_layOne σ w0 w1 w2 w3 w4) 636 g = sgM_layOne σ w0 g w2 w3 w4 := (cm_aI_aL _ _ _ _ _).trans (congrArg (fun z => aL z 637 w4) ((cm_aI_aL _ _ _ _ _).trans (congrArg (fun z => aL z 635 w3) ((cm_aI_aL _ _ _ _ _).trans (congrArg (fun z => aL z 630 w2) (aI_aI _ 636 _ _))))))
theorem sgM_layOne_aL630 {σ : Sto} {w0 : Nat → Int32} {w1 : Nat → Int32} {w2 : Nat → Int64} {w3 : Nat → Int64} {w4 : Nat → Int64} {g : Nat → Int64} : aL (sgM_layOne σ w0 w1 w2 w3 w4) 630 g = sgM_layOne σ w0 w1 g w3 w4 := (aL_comm _ (by decide) _ _).trans (congrArg (fun z => aL z 637 w4) ((aL_comm _ (by decide) _ _).trans (congrArg (fun z => aL z 635 w3) (aL_aL _ 630 _ _))))
theorem sgM_layOne_aL635 {σ : Sto} {w0 : Nat → Int32} {w1 : Nat → Int32} {w2 : Nat → Int64} {w3 : Nat → Int64} {w4 : Nat → Int64} {g : Nat → Int64} : aL (sgM_layOne σ w0 w1 w2 w3 w4) 635 g = sgM_layOne σ w0 w1 w2 g w4 := (aL_comm _ (by decide) _ _).trans (congrArg (fun z => aL z 637 w4) (aL_aL _ 635 _ _))
theorem sgM_layOne_aL637 {σ : Sto} {w0 : Nat → Int32} {w1 : Nat → Int32} {w2 : Nat → Int64} {w3 : Nat → Int64} {w4 : Nat → Int64} {g : Nat → Int64} : aL (sgM_layOne σ w0 w1 w2 w3 w4) 637 g = sgM_layOne σ w0 w1 w2 w3 g := aL_aL _ 637 _ _
theorem sgM_layOne_raI611 {σ : Sto} {w0 : Nat → Int32} {w1 : Nat → Int32} {w2 : Nat → Int64} {w3 : Nat → Int64} {w4 : Nat → Int64} : (sgM_layOne σ w0 w1 w2 w3 w4).2.2.1 611 = σ.2.2.1 611 := rfl
theorem sgM_layOne_raI615 {σ : Sto} {w0 : Nat → Int32} {w1 : Nat → Int32} {w2 : Nat → Int64} {w3 : Nat → Int64} {w4 : Nat → Int64} : (sgM_layOne σ w0 w1 w2 w3 w4).2.2.1 615 = σ.2.2.1 615 := rfl
theorem sgM_layOne_raI618 {σ : Sto} {w0 : Nat → Int32} {w1 : Nat → Int32} {w2 : Nat → Int64} {w3 : Nat → Int64} {w4 : Nat → Int64} : (sgM_layOne σ w0 w1 w2 w3 w4).2.2.1 618 = σ.2.2.1 618 := rfl
theorem sgM_layOne_raI620 {σ : Sto} {w0 : Nat → Int32} {w1 : Nat → Int32} {w2 : Nat → Int64} {w3 : Nat → Int64} {w4 : Nat → Int64} : (sgM_layOne σ w0 w1 w2 w3 w4).2.2.1 620 = σ.2.2.1 620 := rfl
theorem sgM_layOne_raI621 {σ : Sto} {w0 : Nat → Int32} {w1 : Nat → Int32} {w2 : Nat → Int64} {w3 : Nat → Int64} {w4 : Nat → Int64} : (sgM_layOne σ w0 w1 w2 w3 w4).2.2.1 621 = σ.2.2.1 621 := rfl
theorem sgM_layOne_raI624 {σ : Sto} {w0 : Nat → Int32} {w1 : Nat → Int32} {w2 : Nat → Int64} {w3 : Nat → Int64} {w4 : Nat → Int64} : (sgM_layOne σ w0 w1 w2 w3 w4).2.2.1 624 = σ.2.2.1 624 := rfl
theorem sgM_layOne_raI631 {σ : Sto} {w0 : Nat → Int32} {w1 : Nat → Int32} {w2 : Nat → Int64} {w3 : Nat → Int64} {w4 : Nat → Int64} : (sgM_layOne σ w0 w1 w2 w3 w4).2.2.1 631 = w0 := rfl
theorem sgM_layOne_raI636 {σ : Sto} {w0 : Nat → Int32} {w1 : Nat → Int32} {w2 : Nat → Int64} {w3 : Nat → Int64} {w4 : Nat → Int64} : (sgM_layOne σ w0 w1 w2 w3 w4).2.2.1 636 = w1 := rfl
theorem sgM_layOne_raL628 {σ : Sto} {w0 : Nat → Int32} {w1 : Nat → Int32} {w2 : Nat → Int64} {w3 : Nat → Int64} {w4 : Nat → Int64} : (sgM_layOne σ w0 w1 w2 w3 w4).2.2.2.1 628 = σ.2.2.2.1 628 := rfl
theorem sgM_layOne_raL630 {σ : Sto} {w0 : Nat → Int32} {w1 : Nat → Int32} {w2 : Nat → Int64} {w3 : Nat → Int64} {w4 : Nat → Int64} : (sgM_layOne σ w0 w1 w2 w3 w4).2.2.2.1 630 = w2 := rfl
theorem sgM_layOne_raL634 {σ : Sto} {w0 : Nat → Int32} {w1 : Nat → Int32} {w2 : Nat → Int64} {w3 : Nat → Int64} {w4 : Nat → Int64} : (sgM_layOne σ w0 w1 w2 w3 w4).2.2.2.1 634 = σ.2.2.2.1 634 := rfl
theorem sgM_layOne_raL635 {σ : Sto} {w0 : Nat → Int32} {w1 : Nat → Int32} {w2 : Nat → Int64} {w3 : Nat → Int64} {w4 : Nat → Int64} : (sgM_layOne σ w0 w1 w2 w3 w4).2.2.2.1 635 = w3 := rfl
theorem sgM_layOne_raL637 {σ : Sto} {w0 : Nat → Int32} {w1 : Nat → Int32} {w2 : Nat → Int64} {w3 : Nat → Int64} {w4 : Nat → Int64} : (sgM_layOne σ w0 w1 w2 w3 w4).2.2.2.1 637 = w4 := rfl
abbrev rmM_layOne : Room := { frames := 4, cells := 0, slots := 0, locals := 103 }
set_option maxHeartbeats 4000000 in
theorem wkM_layOne {x1 : Int32} {x2 : Int32} {x3 : Int32} {w_aI631 : Nat → Int32} {w_aI636 : Nat → Int32} {w_aL630 : Nat → Int64} {w_aL635 : Nat → Int64} {w_aL637 : Nat → Int64} (E : EN p s m args meth c0 RX16 cX16_layOne 11 (Option.none : Option Jvm.ClassFile.FieldType)) (hK : KK D clsA G s) (hA : ∀ q, PA dscM ad s.heap.size q → A q) (hf : mo_layOne (σ.2.2.1 611) (σ.2.2.1 615) (σ.2.2.1 618) (σ.2.2.1 620) (σ.2.2.1 621) (σ.2.2.1 624) (σ.2.2.1 631) (σ.2.2.1 636) (σ.2.2.2.1 628) (σ.2.2.2.1 630) (σ.2.2.2.1 634) (σ.2.2.2.1 635) (σ.2.2.2.1 637) x1 x2 x3 = some (w_aI631, w_aI636, w_aL630, w_aL635, w_aL637)) (hQ : Q = MQ below (va_Qv (fun (_ : Unit) => True) (fun _ t => PM D G ad (sgM_layOne σ w_aI631 w_aI636 w_aL630 w_aL635 w_aL637) t.heap ∧ KK D clsA G t) A) args s 0 0 A) (hP : PM D G ad σ H) (hS : va_S A s.heap H locs) (hl : lv_has ls 11 [(0, .ref (ad 500)), (1, .int x1), (2, .int x2), (3, .int x3)]) : W p l e rmM_layOne s m args below meth c0 H locs 0 0 Q (F0 m 0 ls []) := by
  obtain ⟨⟨hx, hb, hml, hown, hts⟩, hr, hlk⟩ := id E
  have hP := hP.to (sgM_layOne_self σ).symm
  unfold mo_layOne at hf
  refine lv_sipush hx hb dX16_layOne_0 sp_7290 ?_
  refine lv_iload_n hx hb dX16_layOne_3 rfl (lv_at hl 1 rfl) ?_
  refine lv_imul hx hb dX16_layOne_4 ?_
  refine lv_bipush hx hb dX16_layOne_5 bp_10 ?_
  refine lv_iload_n hx hb dX16_layOne_7 rfl (lv_at hl 3 rfl) ?_
  refine lv_imul hx hb dX16_layOne_8 ?_
  refine lv_iadd hx hb dX16_layOne_9 ?_
  obtain ⟨v1, hv1, hf⟩ := bdP hf
  refine nm_i (Option.some.inj hv1) ?_
  refine lv_istore (lv' := [(4, .int v1), (0, .ref (ad 500)), (1, .int x1), (2, .int x2), (3, .int x3)]) hx hb dX16_layOne_10 hl (by decide) rfl (fun ls hl => ?_)
  refine lv_iload_n hx hb dX16_layOne_12 rfl (lv_at hl 3 rfl) ?_
  have J26 : ∀ (k2 : Int64), mo_layOne_J26 (σ.2.2.1 611) (σ.2.2.1 615) (σ.2.2.1 618) (σ.2.2.1 620) (σ.2.2.1 621) (σ.2.2.1 624) (σ.2.2.1 631) (σ.2.2.1 636) (σ.2.2.2.1 628) (σ.2.2.2.1 630) (σ.2.2.2.1 634) (σ.2.2.2.1 635) (σ.2.2.2.1 637) v1 x1 x2 x3 k2 = some (w_aI631, w_aI636, w_aL630, w_aL635, w_aL637) → ∀ (H : Heap) (locs : List Loc), PM D G ad (sgM_layOne σ (σ.2.2.1 631) (σ.2.2.1 636) (σ.2.2.2.1 630) (σ.2.2.2.1 635) (σ.2.2.2.1 637)) H → va_S A s.heap H locs → ∀ (ls : Array Slot), lv_has ls 11 [(0, .ref (ad 500)), (1, .int x1), (2, .int x2), (3, .int x3), (4, .int v1)] → W p l e rmM_layOne s m args below meth c0 H locs 0 0 Q (F0 m 26 ls [.long k2]) := by
    intro k2 hf H locs hP hS ls hl
    unfold mo_layOne_J26 at hf
    refine lv_lstore (lv' := [(5, .long k2), (0, .ref (ad 500)), (1, .int x1), (2, .int x2), (3, .int x3), (4, .int v1)]) hx hb dX16_layOne_26 hl (by decide) rfl (fun ls hl => ?_)
    refine lv_iconst hx hb dX16_layOne_28 ic_0 ?_
    refine lv_istore (lv' := [(7, .int 0), (5, .long k2), (0, .ref (ad 500)), (1, .int x1), (2, .int x2), (3, .int x3), (4, .int v1)]) hx hb dX16_layOne_29 hl (by decide) rfl (fun ls hl => ?_)
    have LP31 : ∀ (st31 : Int32 × (Nat → Int32) × (Nat → Int64)) (ex31 : ((Nat → Int32) × (Nat → Int64))), loop (mo_layOne_L31 (σ.2.2.1 611) (σ.2.2.1 620) (σ.2.2.1 624) (σ.2.2.2.1 628) (σ.2.2.2.1 630) x1 x2 x3) st31 = some ex31 → ∀ (H : Heap) (locs : List Loc), PM D G ad (sgM_layOne σ (σ.2.2.1 631) (st31.2.1) (σ.2.2.2.1 630) (st31.2.2) (σ.2.2.2.1 637)) H → va_S A s.heap H locs → ∀ (ls : Array Slot), lv_has ls 11 [(0, .ref (ad 500)), (1, .int x1), (2, .int x2), (3, .int x3), (4, .int v1), (5, .long k2), (7, .int (st31.1))] → (∀ (a22 : Nat → Int32) (a23 : Nat → Int64), ex31 = (a22, a23) → ∀ (H : Heap) (locs : List Loc), PM D G ad (sgM_layOne σ (σ.2.2.1 631) a22 (σ.2.2.2.1 630) a23 (σ.2.2.2.1 637)) H → va_S A s.heap H locs → ∀ (ls : Array Slot), lv_has ls 11 [(0, .ref (ad 500)), (1, .int x1), (2, .int x2), (3, .int x3), (4, .int v1), (5, .long k2)] → W p l e rmM_layOne s m args below meth c0 H locs 0 0 Q (F0 m 94 ls [])) → W p l e rmM_layOne s m args below meth c0 H locs 0 0 Q (F0 m 31 ls []) := by
      refine loop_P (fun st31 ex31 o31 hf ih31 hx31 => ?_)
      obtain ⟨y3, a4, a5⟩ := st31
      intro H locs (hP : PM D G ad (sgM_layOne σ (σ.2.2.1 631) a4 (σ.2.2.2.1 630) a5 (σ.2.2.2.1 637)) H) hS ls (hl : lv_has ls 11 [(0, .ref (ad 500)), (1, .int x1), (2, .int x2), (3, .int x3), (4, .int v1), (5, .long k2), (7, .int y3)]) KE31_0
      dsimp only [mo_layOne_L31] at hf
      refine lv_iload hx hb dX16_layOne_31 (lv_at hl 6 rfl) ?_
      refine lv_aload_n hx hb dX16_layOne_33 rfl (lv_at hl 0 rfl) ?_
      obtain ⟨v6, u7, hf⟩ := bdP hf
      refine cM_places E hK hP hS hA sgM_layOne_raI611 u7 ⟨Nat.le_of_ble_eq_true rfl, Nat.le_of_ble_eq_true rfl⟩ ⟨Nat.zero_le _, Nat.zero_le _⟩ hl.1 (Nat.le_of_ble_eq_true rfl) dX16_layOne_34 (fun H locs hP hS => ?_)
      refine lv_icmp_ge (tgt := 94) hx hb dX16_layOne_37 (by decide) (fun c8 => ?_) (fun c8 => ?_)
      · have hf := ifT c8 hf
        exact KE31_0 _ _ (hx31 _ (Option.some.inj hf).symm).symm H locs hP hS ls (lv_sub hl [0, 1, 2, 3, 4, 5] rfl)
      · have hf := ifF c8 hf
        refine lv_aload_n hx hb dX16_layOne_40 rfl (lv_at hl 0 rfl) ?_
        refine gM_36 E hK hP dX16_layOne_41 ?_
        refine lv_iload hx hb dX16_layOne_44 (lv_at hl 6 rfl) ?_
        refine lv_aload_n hx hb dX16_layOne_46 rfl (lv_at hl 0 rfl) ?_
        refine lv_iload hx hb dX16_layOne_47 (lv_at hl 6 rfl) ?_
        refine lv_iload_n hx hb dX16_layOne_49 rfl (lv_at hl 3 rfl) ?_
        obtain ⟨v9, u10, hf⟩ := bdP hf
        refine cM_isSeen E hK hP hS hA sgM_layOne_raI611 sgM_layOne_raI620 sgM_layOne_raI624 u10 ⟨Nat.le_of_ble_eq_true rfl, Nat.le_of_ble_eq_true rfl⟩ ⟨Nat.zero_le _, Nat.zero_le _⟩ hl.1 (Nat.le_of_ble_eq_true rfl) dX16_layOne_50 (fun H locs hP hS => ?_)
        have J61 : ∀ (k11 : Int32) (k12 : Int32), mo_layOne_J61 (σ.2.2.1 611) (σ.2.2.1 620) (σ.2.2.1 624) (σ.2.2.2.1 628) (σ.2.2.2.1 630) x1 x2 x3 y3 a4 a5 k11 k12 = some o31 → ∀ (H : Heap) (locs : List Loc), PM D G ad (sgM_layOne σ (σ.2.2.1 631) a4 (σ.2.2.2.1 630) a5 (σ.2.2.2.1 637)) H → va_S A s.heap H locs → ∀ (ls : Array Slot), lv_has ls 11 [(0, .ref (ad 500)), (1, .int x1), (2, .int x2), (3, .int x3), (4, .int v1), (5, .long k2), (7, .int y3)] → W p l e rmM_layOne s m args below meth c0 H locs 0 0 Q (F0 m 61 ls [.int k11, .int k12, .ref (ad 636)]) := by
          intro k11 k12 hf H locs hP hS ls hl
          unfold mo_layOne_J61 at hf
          obtain ⟨a13, ha13, hf⟩ := bdP hf
          refine p_zast hx hb hK hP hS (hA _ (PA_c dM_636)) dM_636 sgM_layOne_raI636 ha13 sgM_layOne_aI636 dX16_layOne_61 (fun H locs hP hS => ?_)
          refine lv_aload_n hx hb dX16_layOne_62 rfl (lv_at hl 0 rfl) ?_
          refine gM_36 E hK hP dX16_layOne_63 ?_
          refine lv_iload hx hb dX16_layOne_66 (lv_at hl 6 rfl) ?_
          obtain ⟨v14, hv14, hf⟩ := bdP hf
          refine p_zald hx hb hK hP dM_636 sgM_layOne_raI636 hv14 dX16_layOne_68 ?_
          have J88 : ∀ (a15 : Nat → Int64), mo_layOne_J88 y3 a13 a15 = some o31 → ∀ (H : Heap) (locs : List Loc), PM D G ad (sgM_layOne σ (σ.2.2.1 631) a13 (σ.2.2.2.1 630) a15 (σ.2.2.2.1 637)) H → va_S A s.heap H locs → ∀ (ls : Array Slot), lv_has ls 11 [(0, .ref (ad 500)), (1, .int x1), (2, .int x2), (3, .int x3), (4, .int v1), (5, .long k2), (7, .int y3)] → W p l e rmM_layOne s m args below meth c0 H locs 0 0 Q (F0 m 88 ls []) := by
            intro a15 hf H locs hP hS ls hl
            unfold mo_layOne_J88 at hf
            obtain ⟨v16, hv16, hf⟩ := bdP hf
            refine lv_iinc (v := v16) (lv' := [(7, .int v16), (0, .ref (ad 500)), (1, .int x1), (2, .int x2), (3, .int x3), (4, .int v1), (5, .long k2)]) hx hb dX16_layOne_88 hl (k := 6) rfl (Option.some.inj hv16) (by decide) rfl (fun ls hl => ?_)
            refine lv_goto (tgt := 31) hx hb dX16_layOne_91 (by decide) ?_
            exact ih31 _ (Option.some.inj hf).symm H locs hP hS ls (lv_sub hl [1, 2, 3, 4, 5, 6, 0] rfl) KE31_0
          refine lv_if_eq (tgt := 88) hx hb dX16_layOne_69 (by decide) (fun c17 => ?_) (fun c17 => ?_)
          · have hf := ifT c17 hf
            exact J88 a5 hf H locs hP hS ls (lv_sub hl [0, 1, 2, 3, 4, 5, 6] rfl)
          · have hf := ifF c17 hf
            refine lv_aload_n hx hb dX16_layOne_72 rfl (lv_at hl 0 rfl) ?_
            refine gM_35 E hK hP dX16_layOne_73 ?_
            refine lv_iload hx hb dX16_layOne_76 (lv_at hl 6 rfl) ?_
            refine lv_aload_n hx hb dX16_layOne_78 rfl (lv_at hl 0 rfl) ?_
            refine lv_iload_n hx hb dX16_layOne_79 rfl (lv_at hl 1 rfl) ?_
            refine lv_iload_n hx hb dX16_layOne_80 rfl (lv_at hl 2 rfl) ?_
            refine lv_iload hx hb dX16_layOne_81 (lv_at hl 6 rfl) ?_
            refine lv_iload_n hx hb dX16_layOne_83 rfl (lv_at hl 3 rfl) ?_
            obtain ⟨v18, u19, hf⟩ := bdP hf
            refine cM_arrives E hK hP hS hA sgM_layOne_raI611 sgM_layOne_raI620 sgM_layOne_raI624 sgM_layOne_raL628 sgM_layOne_raL630 u19 ⟨Nat.le_of_ble_eq_true rfl, Nat.le_of_ble_eq_true rfl⟩ ⟨Nat.zero_le _, Nat.zero_le _⟩ hl.1 (Nat.le_of_ble_eq_true rfl) dX16_layOne_84 (fun H locs hP hS => ?_)
            obtain ⟨a20, ha20, hf⟩ := bdP hf
            refine p_last hx hb hK hP hS (hA _ (PA_c dM_635)) dM_635 sgM_layOne_raL635 ha20 sgM_layOne_aL635 dX16_layOne_87 (fun H locs hP hS => ?_)
            exact J88 a20 hf H locs hP hS ls (lv_sub hl [0, 1, 2, 3, 4, 5, 6] rfl)
        refine lv_if_ne (tgt := 60) hx hb dX16_layOne_53 (by decide) (fun c21 => ?_) (fun c21 => ?_)
        · have hf := ifF c21 hf
          refine lv_iconst hx hb dX16_layOne_60 ic_0 ?_
          exact J61 0 y3 hf H locs hP hS ls (lv_sub hl [0, 1, 2, 3, 4, 5, 6] rfl)
        · have hf := ifT c21 hf
          refine lv_iconst hx hb dX16_layOne_56 ic_1 ?_
          refine lv_goto (tgt := 61) hx hb dX16_layOne_57 (by decide) ?_
          exact J61 1 y3 hf H locs hP hS ls (lv_sub hl [0, 1, 2, 3, 4, 5, 6] rfl)
    obtain ⟨ex31, hlp31, hf⟩ := bdP hf
    refine LP31 (0, (σ.2.2.1 636), (σ.2.2.2.1 635)) ex31 hlp31 H locs hP hS ls (lv_sub hl [2, 3, 4, 5, 6, 1, 0] rfl) ?_
    intro a22 a23 hex31 H locs hP hS ls hl
    subst ex31
    dsimp only at hf
    refine lv_iconst hx hb dX16_layOne_94 ic_0 ?_
    refine lv_istore (lv' := [(7, .int 0), (0, .ref (ad 500)), (1, .int x1), (2, .int x2), (3, .int x3), (4, .int v1), (5, .long k2)]) hx hb dX16_layOne_95 hl (by decide) rfl (fun ls hl => ?_)
    have LP97 : ∀ (st97 : Int32 × (Nat → Int64)) (ex97 : ((Nat → Int64))), loop (mo_layOne_L97 (σ.2.2.1 611) (σ.2.2.1 618) (σ.2.2.1 624) (σ.2.2.2.1 628) (σ.2.2.2.1 630) x1 x2 x3 a22) st97 = some ex97 → ∀ (H : Heap) (locs : List Loc), PM D G ad (sgM_layOne σ (σ.2.2.1 631) a22 (σ.2.2.2.1 630) a23 (st97.2)) H → va_S A s.heap H locs → ∀ (ls : Array Slot), lv_has ls 11 [(0, .ref (ad 500)), (1, .int x1), (2, .int x2), (3, .int x3), (4, .int v1), (5, .long k2), (7, .int (st97.1))] → (∀ (a40 : Nat → Int64), ex97 = a40 → ∀ (H : Heap) (locs : List Loc), PM D G ad (sgM_layOne σ (σ.2.2.1 631) a22 (σ.2.2.2.1 630) a23 a40) H → va_S A s.heap H locs → ∀ (ls : Array Slot), lv_has ls 11 [(0, .ref (ad 500)), (2, .int x2), (3, .int x3), (4, .int v1), (5, .long k2)] → W p l e rmM_layOne s m args below meth c0 H locs 0 0 Q (F0 m 166 ls [])) → W p l e rmM_layOne s m args below meth c0 H locs 0 0 Q (F0 m 97 ls []) := by
      refine loop_P (fun st97 ex97 o97 hf ih97 hx97 => ?_)
      obtain ⟨y24, a25⟩ := st97
      intro H locs (hP : PM D G ad (sgM_layOne σ (σ.2.2.1 631) a22 (σ.2.2.2.1 630) a23 a25) H) hS ls (hl : lv_has ls 11 [(0, .ref (ad 500)), (1, .int x1), (2, .int x2), (3, .int x3), (4, .int v1), (5, .long k2), (7, .int y24)]) KE97_0
      dsimp only [mo_layOne_L97] at hf
      refine lv_iload hx hb dX16_layOne_97 (lv_at hl 6 rfl) ?_
      refine lv_aload_n hx hb dX16_layOne_99 rfl (lv_at hl 0 rfl) ?_
      refine gM_11 E hK hP dX16_layOne_100 ?_
      refine lv_iconst hx hb dX16_layOne_103 ic_5 ?_
      obtain ⟨v26, hv26, hf⟩ := bdP hf
      refine p_iald hx hb hK hP dM_611 sgM_layOne_raI611 hv26 dX16_layOne_104 ?_
      refine lv_icmp_ge (tgt := 166) hx hb dX16_layOne_105 (by decide) (fun c27 => ?_) (fun c27 => ?_)
      · have hf := ifT c27 hf
        exact KE97_0 _ (hx97 _ (Option.some.inj hf).symm).symm H locs hP hS ls (lv_sub hl [0, 2, 3, 4, 5] rfl)
      · have hf := ifF c27 hf
        refine lv_aload_n hx hb dX16_layOne_108 rfl (lv_at hl 0 rfl) ?_
        refine lv_iload hx hb dX16_layOne_109 (lv_at hl 6 rfl) ?_
        refine lv_aload_n hx hb dX16_layOne_111 rfl (lv_at hl 0 rfl) ?_
        refine gM_18 E hK hP dX16_layOne_112 ?_
        refine lv_iconst hx hb dX16_layOne_115 ic_3 ?_
        refine lv_iload hx hb dX16_layOne_116 (lv_at hl 6 rfl) ?_
        refine lv_imul hx hb dX16_layOne_118 ?_
        obtain ⟨v28, hv28, hf⟩ := bdP hf
        refine p_iald hx hb hK hP dM_618 sgM_layOne_raI618 hv28 dX16_layOne_119 ?_
        refine lv_iload_n hx hb dX16_layOne_120 rfl (lv_at hl 3 rfl) ?_
        obtain ⟨v29, u30, hf⟩ := bdP hf
        refine cM_isSold E hK hP hS hA sgM_layOne_raI618 sgM_layOne_raI624 u30 ⟨Nat.le_of_ble_eq_true rfl, Nat.le_of_ble_eq_true rfl⟩ ⟨Nat.zero_le _, Nat.zero_le _⟩ hl.1 (Nat.le_of_ble_eq_true rfl) dX16_layOne_121 (fun H locs hP hS => ?_)
        have J160 : ∀ (a31 : Nat → Int64), mo_layOne_J160 y24 a31 = some o97 → ∀ (H : Heap) (locs : List Loc), PM D G ad (sgM_layOne σ (σ.2.2.1 631) a22 (σ.2.2.2.1 630) a23 a31) H → va_S A s.heap H locs → ∀ (ls : Array Slot), lv_has ls 11 [(0, .ref (ad 500)), (1, .int x1), (2, .int x2), (3, .int x3), (4, .int v1), (5, .long k2), (7, .int y24)] → W p l e rmM_layOne s m args below meth c0 H locs 0 0 Q (F0 m 160 ls []) := by
          intro a31 hf H locs hP hS ls hl
          unfold mo_layOne_J160 at hf
          obtain ⟨v32, hv32, hf⟩ := bdP hf
          refine lv_iinc (v := v32) (lv' := [(7, .int v32), (0, .ref (ad 500)), (1, .int x1), (2, .int x2), (3, .int x3), (4, .int v1), (5, .long k2)]) hx hb dX16_layOne_160 hl (k := 6) rfl (Option.some.inj hv32) (by decide) rfl (fun ls hl => ?_)
          refine lv_goto (tgt := 97) hx hb dX16_layOne_163 (by decide) ?_
          exact ih97 _ (Option.some.inj hf).symm H locs hP hS ls (lv_sub hl [1, 2, 3, 4, 5, 6, 0] rfl) KE97_0
        refine lv_if_eq (tgt := 160) hx hb dX16_layOne_124 (by decide) (fun c33 => ?_) (fun c33 => ?_)
        · have hf := ifT c33 hf
          exact J160 a25 hf H locs hP hS ls (lv_sub hl [0, 1, 2, 3, 4, 5, 6] rfl)
        · have hf := ifF c33 hf
          refine lv_aload_n hx hb dX16_layOne_127 rfl (lv_at hl 0 rfl) ?_
          refine gM_36 E hK hP dX16_layOne_128 ?_
          refine lv_aload_n hx hb dX16_layOne_131 rfl (lv_at hl 0 rfl) ?_
          refine gM_18 E hK hP dX16_layOne_132 ?_
          refine lv_iconst hx hb dX16_layOne_135 ic_3 ?_
          refine lv_iload hx hb dX16_layOne_136 (lv_at hl 6 rfl) ?_
          refine lv_imul hx hb dX16_layOne_138 ?_
          obtain ⟨v34, hv34, hf⟩ := bdP hf
          refine p_iald hx hb hK hP dM_618 sgM_layOne_raI618 hv34 dX16_layOne_139 ?_
          obtain ⟨v35, hv35, hf⟩ := bdP hf
          refine p_zald hx hb hK hP dM_636 sgM_layOne_raI636 hv35 dX16_layOne_140 ?_
          refine lv_if_ne (tgt := 160) hx hb dX16_layOne_141 (by decide) (fun c36 => ?_) (fun c36 => ?_)
          · have hf := ifF c36 hf
            exact J160 a25 hf H locs hP hS ls (lv_sub hl [0, 1, 2, 3, 4, 5, 6] rfl)
          · have hf := ifT c36 hf
            refine lv_aload_n hx hb dX16_layOne_144 rfl (lv_at hl 0 rfl) ?_
            refine gM_37 E hK hP dX16_layOne_145 ?_
            refine lv_iload hx hb dX16_layOne_148 (lv_at hl 6 rfl) ?_
            refine lv_aload_n hx hb dX16_layOne_150 rfl (lv_at hl 0 rfl) ?_
            refine lv_iload_n hx hb dX16_layOne_151 rfl (lv_at hl 1 rfl) ?_
            refine lv_iload_n hx hb dX16_layOne_152 rfl (lv_at hl 2 rfl) ?_
            refine lv_iload hx hb dX16_layOne_153 (lv_at hl 6 rfl) ?_
            refine lv_iload_n hx hb dX16_layOne_155 rfl (lv_at hl 3 rfl) ?_
            obtain ⟨v37, u38, hf⟩ := bdP hf
            refine cM_buys E hK hP hS hA sgM_layOne_raI618 sgM_layOne_raI624 sgM_layOne_raL628 sgM_layOne_raL630 u38 ⟨Nat.le_of_ble_eq_true rfl, Nat.le_of_ble_eq_true rfl⟩ ⟨Nat.zero_le _, Nat.zero_le _⟩ hl.1 (Nat.le_of_ble_eq_true rfl) dX16_layOne_156 (fun H locs hP hS => ?_)
            obtain ⟨a39, ha39, hf⟩ := bdP hf
            refine p_last hx hb hK hP hS (hA _ (PA_c dM_637)) dM_637 sgM_layOne_raL637 ha39 sgM_layOne_aL637 dX16_layOne_159 (fun H locs hP hS => ?_)
            exact J160 a39 hf H locs hP hS ls (lv_sub hl [0, 1, 2, 3, 4, 5, 6] rfl)
    obtain ⟨ex97, hlp97, hf⟩ := bdP hf
    refine LP97 (0, (σ.2.2.2.1 637)) ex97 hlp97 H locs hP hS ls (lv_sub hl [1, 2, 3, 4, 5, 6, 0] rfl) ?_
    intro a40 hex97 H locs hP hS ls hl
    subst ex97
    refine lv_aload_n hx hb dX16_layOne_166 rfl (lv_at hl 0 rfl) ?_
    refine gM_30 E hK hP dX16_layOne_167 ?_
    refine lv_iload hx hb dX16_layOne_170 (lv_at hl 3 rfl) ?_
    refine lv_aload_n hx hb dX16_layOne_172 rfl (lv_at hl 0 rfl) ?_
    refine gM_11 E hK hP dX16_layOne_173 ?_
    refine lv_bipush hx hb dX16_layOne_176 bp_7 ?_
    obtain ⟨v41, hv41, hf⟩ := bdP hf
    refine p_iald hx hb hK hP dM_611 sgM_layOne_raI611 hv41 dX16_layOne_178 ?_
    refine lv_iadd hx hb dX16_layOne_179 ?_
    refine lv_aload_n hx hb dX16_layOne_180 rfl (lv_at hl 0 rfl) ?_
    refine gM_36 E hK hP dX16_layOne_181 ?_
    refine lv_aload_n hx hb dX16_layOne_184 rfl (lv_at hl 0 rfl) ?_
    refine gM_11 E hK hP dX16_layOne_185 ?_
    refine lv_bipush hx hb dX16_layOne_188 bp_7 ?_
    obtain ⟨v42, hv42, hf⟩ := bdP hf
    refine p_iald hx hb hK hP dM_611 sgM_layOne_raI611 hv42 dX16_layOne_190 ?_
    obtain ⟨v43, hv43, hf⟩ := bdP hf
    refine p_zald hx hb hK hP dM_636 sgM_layOne_raI636 hv43 dX16_layOne_191 ?_
    have J215 : ∀ (k44 : Int64) (k45 : Int32), mo_layOne_J215 (σ.2.2.1 611) (σ.2.2.1 615) (σ.2.2.1 618) (σ.2.2.1 621) (σ.2.2.1 624) (σ.2.2.1 631) (σ.2.2.2.1 630) v1 k2 x3 a22 a23 a40 k44 k45 = some (w_aI631, w_aI636, w_aL630, w_aL635, w_aL637) → ∀ (H : Heap) (locs : List Loc), PM D G ad (sgM_layOne σ (σ.2.2.1 631) a22 (σ.2.2.2.1 630) a23 a40) H → va_S A s.heap H locs → ∀ (ls : Array Slot), lv_has ls 11 [(0, .ref (ad 500)), (3, .int x3), (4, .int v1), (5, .long k2)] → W p l e rmM_layOne s m args below meth c0 H locs 0 0 Q (F0 m 215 ls [.long k44, .int k45, .ref (ad 630)]) := by
      intro k44 k45 hf H locs hP hS ls hl
      unfold mo_layOne_J215 at hf
      obtain ⟨a46, ha46, hf⟩ := bdP hf
      refine p_last hx hb hK hP hS (hA _ (PA_c dM_630)) dM_630 sgM_layOne_raL630 ha46 sgM_layOne_aL630 dX16_layOne_215 (fun H locs hP hS => ?_)
      refine lv_iconst hx hb dX16_layOne_216 ic_1 ?_
      refine lv_istore (lv' := [(7, .int 1), (0, .ref (ad 500)), (3, .int x3), (4, .int v1), (5, .long k2)]) hx hb dX16_layOne_217 hl (by decide) rfl (fun ls hl => ?_)
      have LP219 : ∀ (st219 : Int32 × (Nat → Int64)) (ex219 : ((Nat → Int64))), loop (mo_layOne_L219 (σ.2.2.1 611) (σ.2.2.1 615) (σ.2.2.1 618) (σ.2.2.1 621) (σ.2.2.1 624) v1 k2 x3 a22 a23 a40) st219 = some ex219 → ∀ (H : Heap) (locs : List Loc), PM D G ad (sgM_layOne σ (σ.2.2.1 631) a22 (st219.2) a23 a40) H → va_S A s.heap H locs → ∀ (ls : Array Slot), lv_has ls 11 [(0, .ref (ad 500)), (3, .int x3), (4, .int v1), (5, .long k2), (7, .int (st219.1))] → (∀ (a70 : Nat → Int64), ex219 = a70 → ∀ (H : Heap) (locs : List Loc), PM D G ad (sgM_layOne σ (σ.2.2.1 631) a22 a70 a23 a40) H → va_S A s.heap H locs → ∀ (ls : Array Slot), lv_has ls 11 [(0, .ref (ad 500)), (3, .int x3), (4, .int v1), (5, .long k2)] → W p l e rmM_layOne s m args below meth c0 H locs 0 0 Q (F0 m 317 ls [])) → W p l e rmM_layOne s m args below meth c0 H locs 0 0 Q (F0 m 219 ls []) := by
        refine loop_P (fun st219 ex219 o219 hf ih219 hx219 => ?_)
        obtain ⟨y47, a48⟩ := st219
        intro H locs (hP : PM D G ad (sgM_layOne σ (σ.2.2.1 631) a22 a48 a23 a40) H) hS ls (hl : lv_has ls 11 [(0, .ref (ad 500)), (3, .int x3), (4, .int v1), (5, .long k2), (7, .int y47)]) KE219_0
        dsimp only [mo_layOne_L219] at hf
        refine lv_iload hx hb dX16_layOne_219 (lv_at hl 4 rfl) ?_
        refine lv_if_eq (tgt := 317) hx hb dX16_layOne_221 (by decide) (fun c49 => ?_) (fun c49 => ?_)
        · have hf := ifT c49 hf
          exact KE219_0 _ (hx219 _ (Option.some.inj hf).symm).symm H locs hP hS ls (lv_sub hl [0, 1, 2, 3] rfl)
        · have hf := ifF c49 hf
          refine lv_iconst hx hb dX16_layOne_224 ic_0 ?_
          refine lv_istore (lv' := [(7, .int 0), (0, .ref (ad 500)), (3, .int x3), (4, .int v1), (5, .long k2)]) hx hb dX16_layOne_225 hl (by decide) rfl (fun ls hl => ?_)
          refine lv_iconst hx hb dX16_layOne_227 ic_0 ?_
          refine lv_istore (lv' := [(8, .int 0), (7, .int 0), (0, .ref (ad 500)), (3, .int x3), (4, .int v1), (5, .long k2)]) hx hb dX16_layOne_228 hl (by decide) rfl (fun ls hl => ?_)
          have LP230 : ∀ (st230 : Int32 × Int32 × (Nat → Int64)) (ex230 : (Int32 × (Nat → Int64))), loop (mo_layOne_L230 (σ.2.2.1 611) (σ.2.2.1 615) (σ.2.2.1 618) (σ.2.2.1 621) (σ.2.2.1 624) v1 k2 x3 a22 a23 a40) st230 = some ex230 → ∀ (H : Heap) (locs : List Loc), PM D G ad (sgM_layOne σ (σ.2.2.1 631) a22 (st230.2.2) a23 a40) H → va_S A s.heap H locs → ∀ (ls : Array Slot), lv_has ls 11 [(0, .ref (ad 500)), (3, .int x3), (4, .int v1), (5, .long k2), (7, .int (st230.1)), (8, .int (st230.2.1))] → (∀ (y68 : Int32) (a69 : Nat → Int64), ex230 = (y68, a69) → ∀ (H : Heap) (locs : List Loc), PM D G ad (sgM_layOne σ (σ.2.2.1 631) a22 a69 a23 a40) H → va_S A s.heap H locs → ∀ (ls : Array Slot), lv_has ls 11 [(0, .ref (ad 500)), (3, .int x3), (4, .int v1), (5, .long k2), (7, .int y68)] → W p l e rmM_layOne s m args below meth c0 H locs 0 0 Q (F0 m 314 ls [])) → W p l e rmM_layOne s m args below meth c0 H locs 0 0 Q (F0 m 230 ls []) := by
            refine loop_P (fun st230 ex230 o230 hf ih230 hx230 => ?_)
            obtain ⟨y50, y51, a52⟩ := st230
            intro H locs (hP : PM D G ad (sgM_layOne σ (σ.2.2.1 631) a22 a52 a23 a40) H) hS ls (hl : lv_has ls 11 [(0, .ref (ad 500)), (3, .int x3), (4, .int v1), (5, .long k2), (7, .int y50), (8, .int y51)]) KE230_0
            dsimp only [mo_layOne_L230] at hf
            refine lv_iload hx hb dX16_layOne_230 (lv_at hl 5 rfl) ?_
            refine lv_aload_n hx hb dX16_layOne_232 rfl (lv_at hl 0 rfl) ?_
            obtain ⟨v53, u54, hf⟩ := bdP hf
            refine cM_places E hK hP hS hA sgM_layOne_raI611 u54 ⟨Nat.le_of_ble_eq_true rfl, Nat.le_of_ble_eq_true rfl⟩ ⟨Nat.zero_le _, Nat.zero_le _⟩ hl.1 (Nat.le_of_ble_eq_true rfl) dX16_layOne_233 (fun H locs hP hS => ?_)
            refine lv_icmp_ge (tgt := 314) hx hb dX16_layOne_236 (by decide) (fun c55 => ?_) (fun c55 => ?_)
            · have hf := ifT c55 hf
              exact KE230_0 _ _ (hx230 _ (Option.some.inj hf).symm).symm H locs hP hS ls (lv_sub hl [0, 1, 2, 3, 4] rfl)
            · have hf := ifF c55 hf
              refine lv_aload_n hx hb dX16_layOne_239 rfl (lv_at hl 0 rfl) ?_
              refine gM_36 E hK hP dX16_layOne_240 ?_
              refine lv_iload hx hb dX16_layOne_243 (lv_at hl 5 rfl) ?_
              obtain ⟨v56, hv56, hf⟩ := bdP hf
              refine p_zald hx hb hK hP dM_636 sgM_layOne_raI636 hv56 dX16_layOne_245 ?_
              have J308 : ∀ (y57 : Int32) (a58 : Nat → Int64), mo_layOne_J308 y51 y57 a58 = some o230 → ∀ (H : Heap) (locs : List Loc), PM D G ad (sgM_layOne σ (σ.2.2.1 631) a22 a58 a23 a40) H → va_S A s.heap H locs → ∀ (ls : Array Slot), lv_has ls 11 [(0, .ref (ad 500)), (3, .int x3), (4, .int v1), (5, .long k2), (7, .int y57), (8, .int y51)] → W p l e rmM_layOne s m args below meth c0 H locs 0 0 Q (F0 m 308 ls []) := by
                intro y57 a58 hf H locs hP hS ls hl
                unfold mo_layOne_J308 at hf
                obtain ⟨v59, hv59, hf⟩ := bdP hf
                refine lv_iinc (v := v59) (lv' := [(8, .int v59), (0, .ref (ad 500)), (3, .int x3), (4, .int v1), (5, .long k2), (7, .int y57)]) hx hb dX16_layOne_308 hl (k := 5) rfl (Option.some.inj hv59) (by decide) rfl (fun ls hl => ?_)
                refine lv_goto (tgt := 230) hx hb dX16_layOne_311 (by decide) ?_
                exact ih230 _ (Option.some.inj hf).symm H locs hP hS ls (lv_sub hl [1, 2, 3, 4, 5, 0] rfl) KE230_0
              refine lv_if_ne (tgt := 308) hx hb dX16_layOne_246 (by decide) (fun c60 => ?_) (fun c60 => ?_)
              · have hf := ifF c60 hf
                exact J308 y50 a52 hf H locs hP hS ls (lv_sub hl [0, 1, 2, 3, 4, 5] rfl)
              · have hf := ifT c60 hf
                refine lv_iload hx hb dX16_layOne_249 (lv_at hl 5 rfl) ?_
                refine lv_aload_n hx hb dX16_layOne_251 rfl (lv_at hl 0 rfl) ?_
                refine gM_11 E hK hP dX16_layOne_252 ?_
                refine lv_bipush hx hb dX16_layOne_255 bp_7 ?_
                obtain ⟨v61, hv61, hf⟩ := bdP hf
                refine p_iald hx hb hK hP dM_611 sgM_layOne_raI611 hv61 dX16_layOne_257 ?_
                refine lv_icmp_ne (tgt := 264) hx hb dX16_layOne_258 (by decide) (fun c62 => ?_) (fun c62 => ?_)
                · have hf := ifF c62 hf
                  refine lv_aload_n hx hb dX16_layOne_264 rfl (lv_at hl 0 rfl) ?_
                  refine lv_iload hx hb dX16_layOne_265 (lv_at hl 2 rfl) ?_
                  refine lv_lload hx hb dX16_layOne_267 (lv_at hl 3 rfl) ?_
                  refine lv_iload hx hb dX16_layOne_269 (lv_at hl 5 rfl) ?_
                  refine lv_iload_n hx hb dX16_layOne_271 rfl (lv_at hl 1 rfl) ?_
                  obtain ⟨v63, u64, hf⟩ := bdP hf
                  refine cM_least E hK hP hS hA sgM_layOne_raI611 sgM_layOne_raI615 sgM_layOne_raI618 sgM_layOne_raI621 sgM_layOne_raI624 sgM_layOne_raI636 sgM_layOne_raL630 sgM_layOne_raL635 sgM_layOne_raL637 u64 ⟨Nat.le_of_ble_eq_true rfl, Nat.le_of_ble_eq_true rfl⟩ ⟨Nat.zero_le _, Nat.zero_le _⟩ hl.1 (Nat.le_of_ble_eq_true rfl) dX16_layOne_272 (fun H locs hP hS => ?_)
                  refine lv_lstore (lv' := [(9, .long v63), (0, .ref (ad 500)), (3, .int x3), (4, .int v1), (5, .long k2), (7, .int y50), (8, .int y51)]) hx hb dX16_layOne_275 hl (by decide) rfl (fun ls hl => ?_)
                  refine lv_lload hx hb dX16_layOne_277 (lv_at hl 0 rfl) ?_
                  refine lv_aload_n hx hb dX16_layOne_279 rfl (lv_at hl 1 rfl) ?_
                  refine gM_30 E hK hP dX16_layOne_280 ?_
                  refine lv_iload hx hb dX16_layOne_283 (lv_at hl 3 rfl) ?_
                  refine lv_iload hx hb dX16_layOne_285 (lv_at hl 6 rfl) ?_
                  refine lv_iadd hx hb dX16_layOne_287 ?_
                  obtain ⟨v65, hv65, hf⟩ := bdP hf
                  refine p_lald hx hb hK hP dM_630 sgM_layOne_raL630 hv65 dX16_layOne_288 ?_
                  refine W.lcmp hx hb dX16_layOne_289 ?_
                  refine lv_if_ge (tgt := 308) hx hb dX16_layOne_290 (by decide) (fun c66 => ?_) (fun c66 => ?_)
                  · have hf := ifT ((lgc_ge _ _).mp c66) hf
                    exact J308 y50 a52 hf H locs hP hS ls (lv_sub hl [1, 2, 3, 4, 5, 6] rfl)
                  · have hf := ifF (mt (lgc_ge _ _).mpr c66) hf
                    refine lv_aload_n hx hb dX16_layOne_293 rfl (lv_at hl 1 rfl) ?_
                    refine gM_30 E hK hP dX16_layOne_294 ?_
                    refine lv_iload hx hb dX16_layOne_297 (lv_at hl 3 rfl) ?_
                    refine lv_iload hx hb dX16_layOne_299 (lv_at hl 6 rfl) ?_
                    refine lv_iadd hx hb dX16_layOne_301 ?_
                    refine lv_lload hx hb dX16_layOne_302 (lv_at hl 0 rfl) ?_
                    obtain ⟨a67, ha67, hf⟩ := bdP hf
                    refine p_last hx hb hK hP hS (hA _ (PA_c dM_630)) dM_630 sgM_layOne_raL630 ha67 sgM_layOne_aL630 dX16_layOne_304 (fun H locs hP hS => ?_)
                    refine lv_iconst hx hb dX16_layOne_305 ic_1 ?_
                    refine lv_istore (lv' := [(7, .int 1), (9, .long v63), (0, .ref (ad 500)), (3, .int x3), (4, .int v1), (5, .long k2), (8, .int y51)]) hx hb dX16_layOne_306 hl (by decide) rfl (fun ls hl => ?_)
                    exact J308 1 a67 hf H locs hP hS ls (lv_sub hl [2, 3, 4, 5, 0, 6] rfl)
                · have hf := ifT c62 hf
                  refine lv_goto (tgt := 308) hx hb dX16_layOne_261 (by decide) ?_
                  exact J308 y50 a52 hf H locs hP hS ls (lv_sub hl [0, 1, 2, 3, 4, 5] rfl)
          obtain ⟨ex230, hlp230, hf⟩ := bdP hf
          refine LP230 (0, 0, a48) ex230 hlp230 H locs hP hS ls (lv_sub hl [2, 3, 4, 5, 1, 0] rfl) ?_
          intro y68 a69 hex230 H locs hP hS ls hl
          subst ex230
          dsimp only at hf
          refine lv_goto (tgt := 219) hx hb dX16_layOne_314 (by decide) ?_
          exact ih219 _ (Option.some.inj hf).symm H locs hP hS ls (lv_sub hl [0, 1, 2, 3, 4] rfl) KE219_0
      obtain ⟨ex219, hlp219, hf⟩ := bdP hf
      refine LP219 (1, a46) ex219 hlp219 H locs hP hS ls (lv_sub hl [1, 2, 3, 4, 0] rfl) ?_
      intro a70 hex219 H locs hP hS ls hl
      subst ex219
      refine lv_iconst hx hb dX16_layOne_317 ic_0 ?_
      refine lv_istore (lv' := [(8, .int 0), (0, .ref (ad 500)), (3, .int x3), (4, .int v1), (5, .long k2)]) hx hb dX16_layOne_318 hl (by decide) rfl (fun ls hl => ?_)
      have LP320 : ∀ (st320 : Int32 × (Nat → Int32)) (ex320 : ((Nat → Int32))), loop (mo_layOne_L320 (σ.2.2.1 611) (σ.2.2.1 615) (σ.2.2.1 618) (σ.2.2.1 621) (σ.2.2.1 624) v1 k2 x3 a22 a23 a40 a70) st320 = some ex320 → ∀ (H : Heap) (locs : List Loc), PM D G ad (sgM_layOne σ (st320.2) a22 a70 a23 a40) H → va_S A s.heap H locs → ∀ (ls : Array Slot), lv_has ls 11 [(0, .ref (ad 500)), (3, .int x3), (4, .int v1), (5, .long k2), (8, .int (st320.1))] → (∀ (a87 : Nat → Int32), ex320 = a87 → ∀ (H : Heap) (locs : List Loc), PM D G ad (sgM_layOne σ a87 a22 a70 a23 a40) H → va_S A s.heap H locs → ∀ (ls : Array Slot), lv_has ls 11 [] → W p l e rmM_layOne s m args below meth c0 H locs 0 0 Q (F0 m 395 ls [])) → W p l e rmM_layOne s m args below meth c0 H locs 0 0 Q (F0 m 320 ls []) := by
        refine loop_P (fun st320 ex320 o320 hf ih320 hx320 => ?_)
        obtain ⟨y71, a72⟩ := st320
        intro H locs (hP : PM D G ad (sgM_layOne σ a72 a22 a70 a23 a40) H) hS ls (hl : lv_has ls 11 [(0, .ref (ad 500)), (3, .int x3), (4, .int v1), (5, .long k2), (8, .int y71)]) KE320_0
        dsimp only [mo_layOne_L320] at hf
        refine lv_iload hx hb dX16_layOne_320 (lv_at hl 4 rfl) ?_
        refine lv_aload_n hx hb dX16_layOne_322 rfl (lv_at hl 0 rfl) ?_
        obtain ⟨v73, u74, hf⟩ := bdP hf
        refine cM_places E hK hP hS hA sgM_layOne_raI611 u74 ⟨Nat.le_of_ble_eq_true rfl, Nat.le_of_ble_eq_true rfl⟩ ⟨Nat.zero_le _, Nat.zero_le _⟩ hl.1 (Nat.le_of_ble_eq_true rfl) dX16_layOne_323 (fun H locs hP hS => ?_)
        refine lv_icmp_ge (tgt := 395) hx hb dX16_layOne_326 (by decide) (fun c75 => ?_) (fun c75 => ?_)
        · have hf := ifT c75 hf
          exact KE320_0 _ (hx320 _ (Option.some.inj hf).symm).symm H locs hP hS ls (lv_sub hl [] rfl)
        · have hf := ifF c75 hf
          refine lv_aload_n hx hb dX16_layOne_329 rfl (lv_at hl 0 rfl) ?_
          refine gM_36 E hK hP dX16_layOne_330 ?_
          refine lv_iload hx hb dX16_layOne_333 (lv_at hl 4 rfl) ?_
          obtain ⟨v76, hv76, hf⟩ := bdP hf
          refine p_zald hx hb hK hP dM_636 sgM_layOne_raI636 hv76 dX16_layOne_335 ?_
          have J389 : ∀ (a77 : Nat → Int32), mo_layOne_J389 y71 a77 = some o320 → ∀ (H : Heap) (locs : List Loc), PM D G ad (sgM_layOne σ a77 a22 a70 a23 a40) H → va_S A s.heap H locs → ∀ (ls : Array Slot), lv_has ls 11 [(0, .ref (ad 500)), (3, .int x3), (4, .int v1), (5, .long k2), (8, .int y71)] → W p l e rmM_layOne s m args below meth c0 H locs 0 0 Q (F0 m 389 ls []) := by
            intro a77 hf H locs hP hS ls hl
            unfold mo_layOne_J389 at hf
            obtain ⟨v78, hv78, hf⟩ := bdP hf
            refine lv_iinc (v := v78) (lv' := [(8, .int v78), (0, .ref (ad 500)), (3, .int x3), (4, .int v1), (5, .long k2)]) hx hb dX16_layOne_389 hl (k := 4) rfl (Option.some.inj hv78) (by decide) rfl (fun ls hl => ?_)
            refine lv_goto (tgt := 320) hx hb dX16_layOne_392 (by decide) ?_
            exact ih320 _ (Option.some.inj hf).symm H locs hP hS ls (lv_sub hl [1, 2, 3, 4, 0] rfl) KE320_0
          refine lv_if_ne (tgt := 389) hx hb dX16_layOne_336 (by decide) (fun c79 => ?_) (fun c79 => ?_)
          · have hf := ifF c79 hf
            exact J389 a72 hf H locs hP hS ls (lv_sub hl [0, 1, 2, 3, 4] rfl)
          · have hf := ifT c79 hf
            refine lv_iload hx hb dX16_layOne_339 (lv_at hl 4 rfl) ?_
            refine lv_aload_n hx hb dX16_layOne_341 rfl (lv_at hl 0 rfl) ?_
            refine gM_11 E hK hP dX16_layOne_342 ?_
            refine lv_bipush hx hb dX16_layOne_345 bp_7 ?_
            obtain ⟨v80, hv80, hf⟩ := bdP hf
            refine p_iald hx hb hK hP dM_611 sgM_layOne_raI611 hv80 dX16_layOne_347 ?_
            refine lv_icmp_eq (tgt := 389) hx hb dX16_layOne_348 (by decide) (fun c81 => ?_) (fun c81 => ?_)
            · have hf := ifT c81 hf
              exact J389 a72 hf H locs hP hS ls (lv_sub hl [0, 1, 2, 3, 4] rfl)
            · have hf := ifF c81 hf
              refine lv_aload_n hx hb dX16_layOne_351 rfl (lv_at hl 0 rfl) ?_
              refine gM_30 E hK hP dX16_layOne_352 ?_
              refine lv_iload hx hb dX16_layOne_355 (lv_at hl 2 rfl) ?_
              refine lv_iload hx hb dX16_layOne_357 (lv_at hl 4 rfl) ?_
              refine lv_iadd hx hb dX16_layOne_359 ?_
              obtain ⟨v82, hv82, hf⟩ := bdP hf
              refine p_lald hx hb hK hP dM_630 sgM_layOne_raL630 hv82 dX16_layOne_360 ?_
              refine lv_ldc2 hx hb hown (hts _ q2050) dX16_layOne_361 ?_
              refine W.lcmp hx hb dX16_layOne_364 ?_
              refine lv_if_ge (tgt := 389) hx hb dX16_layOne_365 (by decide) (fun c83 => ?_) (fun c83 => ?_)
              · have hf := ifT ((lgc_ge _ _).mp c83) hf
                exact J389 a72 hf H locs hP hS ls (lv_sub hl [0, 1, 2, 3, 4] rfl)
              · have hf := ifF (mt (lgc_ge _ _).mpr c83) hf
                refine lv_aload_n hx hb dX16_layOne_368 rfl (lv_at hl 0 rfl) ?_
                refine gM_31 E hK hP dX16_layOne_369 ?_
                refine lv_iload hx hb dX16_layOne_372 (lv_at hl 2 rfl) ?_
                refine lv_iload hx hb dX16_layOne_374 (lv_at hl 4 rfl) ?_
                refine lv_iadd hx hb dX16_layOne_376 ?_
                refine lv_aload_n hx hb dX16_layOne_377 rfl (lv_at hl 0 rfl) ?_
                refine lv_iload hx hb dX16_layOne_378 (lv_at hl 2 rfl) ?_
                refine lv_lload hx hb dX16_layOne_380 (lv_at hl 3 rfl) ?_
                refine lv_iload hx hb dX16_layOne_382 (lv_at hl 4 rfl) ?_
                refine lv_iload_n hx hb dX16_layOne_384 rfl (lv_at hl 1 rfl) ?_
                obtain ⟨v84, u85, hf⟩ := bdP hf
                refine cM_firstOf E hK hP hS hA sgM_layOne_raI611 sgM_layOne_raI615 sgM_layOne_raI618 sgM_layOne_raI621 sgM_layOne_raI624 sgM_layOne_raI636 sgM_layOne_raL630 sgM_layOne_raL635 sgM_layOne_raL637 u85 ⟨Nat.le_of_ble_eq_true rfl, Nat.le_of_ble_eq_true rfl⟩ ⟨Nat.zero_le _, Nat.zero_le _⟩ hl.1 (Nat.le_of_ble_eq_true rfl) dX16_layOne_385 (fun H locs hP hS => ?_)
                obtain ⟨a86, ha86, hf⟩ := bdP hf
                refine p_iast hx hb hK hP hS (hA _ (PA_c dM_631)) dM_631 sgM_layOne_raI631 ha86 sgM_layOne_aI631 dX16_layOne_388 (fun H locs hP hS => ?_)
                exact J389 a86 hf H locs hP hS ls (lv_sub hl [0, 1, 2, 3, 4] rfl)
      obtain ⟨ex320, hlp320, hf⟩ := bdP hf
      refine LP320 (0, (σ.2.2.1 631)) ex320 hlp320 H locs hP hS ls (lv_sub hl [1, 2, 3, 4, 0] rfl) ?_
      intro a87 hex320 H locs hP hS ls hl
      subst ex320
      cases hf
      rw [hQ]; exact p_vret hx hb hr hlk hK hP hS dX16_layOne_395
    refine lv_if_eq (tgt := 201) hx hb dX16_layOne_192 (by decide) (fun c88 => ?_) (fun c88 => ?_)
    · have hf := ifT c88 hf
      refine lv_iload_n hx hb dX16_layOne_201 rfl (lv_at hl 1 rfl) ?_
      refine lv_if_eq (tgt := 209) hx hb dX16_layOne_202 (by decide) (fun c89 => ?_) (fun c89 => ?_)
      · have hf := ifT c89 hf
        refine lv_aload_n hx hb dX16_layOne_209 rfl (lv_at hl 0 rfl) ?_
        refine gM_34 E hK hP dX16_layOne_210 ?_
        refine lv_iload_n hx hb dX16_layOne_213 rfl (lv_at hl 2 rfl) ?_
        obtain ⟨v90, hv90, hf⟩ := bdP hf
        refine p_lald hx hb hK hP dM_634 sgM_layOne_raL634 hv90 dX16_layOne_214 ?_
        exact J215 v90 (v1 + v41) hf H locs hP hS ls (lv_sub hl [0, 2, 3, 4] rfl)
      · have hf := ifF c89 hf
        refine lv_lconst hx hb dX16_layOne_205 lc_0 ?_
        refine lv_goto (tgt := 215) hx hb dX16_layOne_206 (by decide) ?_
        exact J215 0 (v1 + v41) hf H locs hP hS ls (lv_sub hl [0, 2, 3, 4] rfl)
    · have hf := ifF c88 hf
      refine lv_ldc2 hx hb hown (hts _ q2050) dX16_layOne_195 ?_
      refine lv_goto (tgt := 215) hx hb dX16_layOne_198 (by decide) ?_
      exact J215 4000000000000000000 (v1 + v41) hf H locs hP hS ls (lv_sub hl [0, 2, 3, 4] rfl)
  refine lv_if_eq (tgt := 25) hx hb dX16_layOne_13 (by decide) (fun c91 => ?_) (fun c91 => ?_)
  · have hf := ifT c91 hf
    refine lv_lconst hx hb dX16_layOne_25 lc_1 ?_
    exact J26 1 hf H locs hP hS ls (lv_sub hl [1, 2, 3, 4, 0] rfl)
  · have hf := ifF c91 hf
    refine lv_aload_n hx hb dX16_layOne_16 rfl (lv_at hl 1 rfl) ?_
    refine gM_28 E hK hP dX16_layOne_17 ?_
    refine lv_iload_n hx hb dX16_layOne_20 rfl (lv_at hl 4 rfl) ?_
    obtain ⟨v92, hv92, hf⟩ := bdP hf
    refine p_lald hx hb hK hP dM_628 sgM_layOne_raL628 hv92 dX16_layOne_21 ?_
    refine lv_goto (tgt := 26) hx hb dX16_layOne_22 (by decide) ?_
    exact J26 v92 hf H locs hP hS ls (lv_sub hl [1, 2, 3, 4, 0] rfl)
theorem kM_layOne (l : Launch) (D : va_G) (G : Nat → ClassId) (ad : Nat → Nat) (σ : Sto) {x1 : Int32} {x2 : Int32} {x3 : Int32} {w_aI631 : Nat → Int32} {w_aI636 : Nat → Int32} {w_aL630 : Nat → Int64} {w_aL635 : Nat → Int64} {w_aL637 : Nat → Int64} (hf : mo_layOne (σ.2.2.1 611) (σ.2.2.1 615) (σ.2.2.1 618) (σ.2.2.1 620) (σ.2.2.1 621) (σ.2.2.1 624) (σ.2.2.1 631) (σ.2.2.1 636) (σ.2.2.2.1 628) (σ.2.2.2.1 630) (σ.2.2.2.1 634) (σ.2.2.2.1 635) (σ.2.2.2.1 637) x1 x2 x3 = some (w_aI631, w_aI636, w_aL630, w_aL635, w_aL637)) : CtV l D clsA G dscM ad yX16_layOne (ws_ yX16_layOne cX16_layOne 11 (Option.none : Option Jvm.ClassFile.FieldType)) rmM_layOne [.ref (ad 500), .int x1, .int x2, .int x3] σ (sgM_layOne σ w_aI631 w_aI636 w_aL630 w_aL635 w_aL637) :=
  p_ctV (by decide +kernel) (Nat.le_of_ble_eq_true rfl) (fun p e s m below meth c0 ls A E hP hK hA hS hl => wkM_layOne E hK hA hf rfl hP hS hl)
theorem cM_layOne (E : EN p s m args meth c0 RX16 cc nL ret) (hK : KK D clsA G s) (hP : PM D G ad σ H) (hS : va_S A s.heap H locs) (hA : ∀ q, PA dscM ad s.heap.size q → A q) {x1 : Int32} {x2 : Int32} {x3 : Int32} {w_aI631 : Nat → Int32} {w_aI636 : Nat → Int32} {w_aL630 : Nat → Int64} {w_aL635 : Nat → Int64} {w_aL637 : Nat → Int64} {a_many : Nat → Int32} (e_aI611 : σ.2.2.1 611 = a_many) {a_road : Nat → Int32} (e_aI615 : σ.2.2.1 615 = a_road) {a_word : Nat → Int32} (e_aI618 : σ.2.2.1 618 = a_word) {a_seen : Nat → Int32} (e_aI620 : σ.2.2.1 620 = a_seen) {a_between : Nat → Int32} (e_aI621 : σ.2.2.1 621 = a_between) {a_three : Nat → Int32} (e_aI624 : σ.2.2.1 624 = a_three) {a_act : Nat → Int32} (e_aI631 : σ.2.2.1 631 = a_act) {a_isNews : Nat → Int32} (e_aI636 : σ.2.2.1 636 = a_isNews) {a_likely : Nat → Int64} (e_aL628 : σ.2.2.2.1 628 = a_likely) {a_value : Nat → Int64} (e_aL630 : σ.2.2.2.1 630 = a_value) {a_term : Nat → Int64} (e_aL634 : σ.2.2.2.1 634 = a_term) {a_coming : Nat → Int64} (e_aL635 : σ.2.2.2.1 635 = a_coming) {a_bought : Nat → Int64} (e_aL637 : σ.2.2.2.1 637 = a_bought) (hu : mo_layOne a_many a_road a_word a_seen a_between a_three a_act a_isNews a_likely a_value a_term a_coming a_bought x1 x2 x3 = some (w_aI631, w_aI636, w_aL630, w_aL635, w_aL637)) (hR : rmM_layOne.frames + 1 ≤ R.frames ∧ 8 + (11 + 11) + rmM_layOne.locals ≤ R.locals) (hcs : cells ≤ R.cells ∧ slots ≤ R.slots) (hsz : ls.size = nL) (hW : (rest.map fun v => v.category).sum ≤ 8) (hdg : decode cc pc = .ok (.invokevirtual 322, 3)) (kk : ∀ (H1 : Heap) (locs1 : List Loc), PM D G ad (aL (aL (aL (aI (aI σ 631 w_aI631) 636 w_aI636) 630 w_aL630) 635 w_aL635) 637 w_aL637) H1 → va_S A s.heap H1 locs1 → W p l e R s m args below meth c0 H1 locs1 cells slots Q (F0 m (pc + 3) ls rest)) : W p l e R s m args below meth c0 H locs cells slots Q (F0 m pc ls (.int x3 :: .int x2 :: .int x1 :: .ref (ad 500) :: rest)) := by
  subst e_aI611
  subst e_aI615
  subst e_aI618
  subst e_aI620
  subst e_aI621
  subst e_aI624
  subst e_aI631
  subst e_aI636
  subst e_aL628
  subst e_aL630
  subst e_aL634
  subst e_aL635
  subst e_aL637
  exact p_callV (As := [.int x1, .int x2, .int x3]) (rest := rest) E.1 hK hP hS hA (kM_layOne l D G ad σ hu) (cwV 3 E.1.2.2.2.2 (lw_V q2051 q2053 qs89 q142 q2054) rfl rfl rfl (by decide +kernel) hR) dM_500 rfl rfl rfl hsz rfl hW hdg hcs kk
/-! layValues(IZ)V -/
def sgM_layValues (σ : Sto) (w0 : Nat → Int32) (w1 : Nat → Int32) (w2 : Nat → Int64) (w3 : Nat → Int64) (w4 : Nat → Int64) : Sto := aL (aL (aL (aI (aI σ 631 w0) 636 w1) 630 w2) 635 w3) 637 w4
theorem sgM_layValues_self (σ : Sto) : sgM_layValues σ (σ.2.2.1 631) (σ.2.2.1 636) (σ.2.2.2.1 630) (σ.2.2.2.1 635) (σ.2.2.2.1 637) = σ := by
  unfold sgM_layValues
  simp only [zI_self, zL_self, aI_self, aL_self]
theorem sgM_layValues_aI631 {σ : Sto} {w0 : Nat → Int32} {w1 : Nat → Int32} {w2 : Nat → Int64} {w3 : Nat → Int64} {w4 : Nat → Int64} {g : Nat → Int32} : aI (sgM_layValues σ w0 w1 w2 w3 w4) 631 g = sgM_layValues σ g w1 w2 w3 w4 := (cm_aI_aL _ _ _ _ _).trans (congrArg (fun z => aL z 637 w4) ((cm_aI_aL _ _ _ _ _).trans (congrArg (fun z => aL z 635 w3) ((cm_aI_aL _ _ _ _ _).trans (congrArg (fun z => aL z 630 w2) ((aI_comm _ (by decide) _ _).trans (congrArg (fun z => aI z 636 w1) (aI_aI _ 631 _ _))))))))
theorem sgM_layValues_aI636 {σ : Sto} {w0 : Nat → Int32} {w1 : Nat → Int32} {w2 : Nat → Int64} {w3 : Nat → Int64} {w4 : Nat → Int64} {g : Nat → Int32} : aI (sgM_layValues σ w0 w1 w2 w3 w4) 636 g = sgM_layValues σ w0 g w2 w3 w4 := (cm_aI_aL _ _ _ _ _).trans (congrArg (fun z => aL z 637 w4) ((cm_aI_aL _ _ _ _ _).trans (congrArg (fun z => aL z 635 w3) ((cm_aI_aL _ _ _ _ _).trans (congrArg (fun z => aL z 630 w2) (aI_aI _ 636 _ _))))))
theorem sgM_layValues_aL630 {σ : Sto} {w0 : Nat → Int32} {w1 : Nat → Int32} {w2 : Nat → Int64} {w3 : Nat → Int64} {w4 : Nat → Int64} {g : Nat → Int64} : aL (sgM_layValues σ w0 w1 w2 w3 w4) 630 g = sgM_layValues σ w0 w1 g w3 w4 := (aL_comm _ (by decide) _ _).trans (congrArg (fun z => aL z 637 w4) ((aL_comm _ (by decide) _ _).trans (congrArg (fun z => aL z 635 w3) (aL_aL _ 630 _ _))))
theorem sgM_layValues_aL635 {σ : Sto} {w0 : Nat → Int32} {w1 : Nat → Int32} {w2 : Nat → Int64} {w3 : Nat → Int64} {w4 : Nat → Int64} {g : Nat → Int64} : aL (sgM_layValues σ w0 w1 w2 w3 w4) 635 g = sgM_layValues σ w0 w1 w2 g w4 := (aL_comm _ (by decide) _ _).trans (congrArg (fun z => aL z 637 w4) (aL_aL _ 635 _ _))
theorem sgM_layValues_aL637 {σ : Sto} {w0 : Nat → Int32} {w1 : Nat → Int32} {w2 : Nat → Int64} {w3 : Nat → Int64} {w4 : Nat → Int64} {g : Nat → Int64} : aL (sgM_layValues σ w0 w1 w2 w3 w4) 637 g = sgM_layValues σ w0 w1 w2 w3 g := aL_aL _ 637 _ _
theorem sgM_layValues_rzI523 {σ : Sto} {w0 : Nat → Int32} {w1 : Nat → Int32} {w2 : Nat → Int64} {w3 : Nat → Int64} {w4 : Nat → Int64} : (sgM_layValues σ w0 w1 w2 w3 w4).1 523 = σ.1 523 := rfl
theorem sgM_layValues_raI611 {σ : Sto} {w0 : Nat → Int32} {w1 : Nat → Int32} {w2 : Nat → Int64} {w3 : Nat → Int64} {w4 : Nat → Int64} : (sgM_layValues σ w0 w1 w2 w3 w4).2.2.1 611 = σ.2.2.1 611 := rfl
theorem sgM_layValues_raI615 {σ : Sto} {w0 : Nat → Int32} {w1 : Nat → Int32} {w2 : Nat → Int64} {w3 : Nat → Int64} {w4 : Nat → Int64} : (sgM_layValues σ w0 w1 w2 w3 w4).2.2.1 615 = σ.2.2.1 615 := rfl
theorem sgM_layValues_raI618 {σ : Sto} {w0 : Nat → Int32} {w1 : Nat → Int32} {w2 : Nat → Int64} {w3 : Nat → Int64} {w4 : Nat → Int64} : (sgM_layValues σ w0 w1 w2 w3 w4).2.2.1 618 = σ.2.2.1 618 := rfl
theorem sgM_layValues_raI620 {σ : Sto} {w0 : Nat → Int32} {w1 : Nat → Int32} {w2 : Nat → Int64} {w3 : Nat → Int64} {w4 : Nat → Int64} : (sgM_layValues σ w0 w1 w2 w3 w4).2.2.1 620 = σ.2.2.1 620 := rfl
theorem sgM_layValues_raI621 {σ : Sto} {w0 : Nat → Int32} {w1 : Nat → Int32} {w2 : Nat → Int64} {w3 : Nat → Int64} {w4 : Nat → Int64} : (sgM_layValues σ w0 w1 w2 w3 w4).2.2.1 621 = σ.2.2.1 621 := rfl
theorem sgM_layValues_raI624 {σ : Sto} {w0 : Nat → Int32} {w1 : Nat → Int32} {w2 : Nat → Int64} {w3 : Nat → Int64} {w4 : Nat → Int64} : (sgM_layValues σ w0 w1 w2 w3 w4).2.2.1 624 = σ.2.2.1 624 := rfl
theorem sgM_layValues_raI625 {σ : Sto} {w0 : Nat → Int32} {w1 : Nat → Int32} {w2 : Nat → Int64} {w3 : Nat → Int64} {w4 : Nat → Int64} : (sgM_layValues σ w0 w1 w2 w3 w4).2.2.1 625 = σ.2.2.1 625 := rfl
theorem sgM_layValues_raI631 {σ : Sto} {w0 : Nat → Int32} {w1 : Nat → Int32} {w2 : Nat → Int64} {w3 : Nat → Int64} {w4 : Nat → Int64} : (sgM_layValues σ w0 w1 w2 w3 w4).2.2.1 631 = w0 := rfl
theorem sgM_layValues_raI636 {σ : Sto} {w0 : Nat → Int32} {w1 : Nat → Int32} {w2 : Nat → Int64} {w3 : Nat → Int64} {w4 : Nat → Int64} : (sgM_layValues σ w0 w1 w2 w3 w4).2.2.1 636 = w1 := rfl
theorem sgM_layValues_raL628 {σ : Sto} {w0 : Nat → Int32} {w1 : Nat → Int32} {w2 : Nat → Int64} {w3 : Nat → Int64} {w4 : Nat → Int64} : (sgM_layValues σ w0 w1 w2 w3 w4).2.2.2.1 628 = σ.2.2.2.1 628 := rfl
theorem sgM_layValues_raL630 {σ : Sto} {w0 : Nat → Int32} {w1 : Nat → Int32} {w2 : Nat → Int64} {w3 : Nat → Int64} {w4 : Nat → Int64} : (sgM_layValues σ w0 w1 w2 w3 w4).2.2.2.1 630 = w2 := rfl
theorem sgM_layValues_raL634 {σ : Sto} {w0 : Nat → Int32} {w1 : Nat → Int32} {w2 : Nat → Int64} {w3 : Nat → Int64} {w4 : Nat → Int64} : (sgM_layValues σ w0 w1 w2 w3 w4).2.2.2.1 634 = σ.2.2.2.1 634 := rfl
theorem sgM_layValues_raL635 {σ : Sto} {w0 : Nat → Int32} {w1 : Nat → Int32} {w2 : Nat → Int64} {w3 : Nat → Int64} {w4 : Nat → Int64} : (sgM_layValues σ w0 w1 w2 w3 w4).2.2.2.1 635 = w3 := rfl
theorem sgM_layValues_raL637 {σ : Sto} {w0 : Nat → Int32} {w1 : Nat → Int32} {w2 : Nat → Int64} {w3 : Nat → Int64} {w4 : Nat → Int64} : (sgM_layValues σ w0 w1 w2 w3 w4).2.2.2.1 637 = w4 := rfl
abbrev rmM_layValues : Room := { frames := 5, cells := 0, slots := 0, locals := 133 }
set_option maxHeartbeats 4000000 in
theorem wkM_layValues {x1 : Int32} {x2 : Int32} {w_aI631 : Nat → Int32} {w_aI636 : Nat → Int32} {w_aL630 : Nat → Int64} {w_aL635 : Nat → Int64} {w_aL637 : Nat → Int64} (E : EN p s m args meth c0 RX16 cX16_layValues 4 (Option.none : Option Jvm.ClassFile.FieldType)) (hK : KK D clsA G s) (hA : ∀ q, PA dscM ad s.heap.size q → A q) (hf : mo_layValues (σ.1 523) (σ.2.2.1 611) (σ.2.2.1 615) (σ.2.2.1 618) (σ.2.2.1 620) (σ.2.2.1 621) (σ.2.2.1 624) (σ.2.2.1 625) (σ.2.2.1 631) (σ.2.2.1 636) (σ.2.2.2.1 628) (σ.2.2.2.1 630) (σ.2.2.2.1 634) (σ.2.2.2.1 635) (σ.2.2.2.1 637) x1 x2 = some (w_aI631, w_aI636, w_aL630, w_aL635, w_aL637)) (hQ : Q = MQ below (va_Qv (fun (_ : Unit) => True) (fun _ t => PM D G ad (sgM_layValues σ w_aI631 w_aI636 w_aL630 w_aL635 w_aL637) t.heap ∧ KK D clsA G t) A) args s 0 0 A) (hP : PM D G ad σ H) (hS : va_S A s.heap H locs) (hl : lv_has ls 4 [(0, .ref (ad 500)), (1, .int x1), (2, .int x2)]) : W p l e rmM_layValues s m args below meth c0 H locs 0 0 Q (F0 m 0 ls []) := by
  obtain ⟨⟨hx, hb, hml, hown, hts⟩, hr, hlk⟩ := id E
  have hP := hP.to (sgM_layValues_self σ).symm
  unfold mo_layValues at hf
  refine lv_iconst hx hb dX16_layValues_0 ic_0 ?_
  refine lv_istore_n (lv' := [(3, .int 0), (0, .ref (ad 500)), (1, .int x1), (2, .int x2)]) hx hb dX16_layValues_1 rfl hl (by decide) rfl (fun ls hl => ?_)
  have LP2 : ∀ (st2 : Int32 × (Nat → Int32) × (Nat → Int64)) (ex2 : ((Nat → Int32) × (Nat → Int64))), loop (mo_layValues_L2 x1) st2 = some ex2 → ∀ (H : Heap) (locs : List Loc), PM D G ad (sgM_layValues σ (st2.2.1) (σ.2.2.1 636) (st2.2.2) (σ.2.2.2.1 635) (σ.2.2.2.1 637)) H → va_S A s.heap H locs → ∀ (ls : Array Slot), lv_has ls 4 [(0, .ref (ad 500)), (1, .int x1), (2, .int x2), (3, .int (st2.1))] → (∀ (a8 : Nat → Int32) (a9 : Nat → Int64), ex2 = (a8, a9) → ∀ (H : Heap) (locs : List Loc), PM D G ad (sgM_layValues σ a8 (σ.2.2.1 636) a9 (σ.2.2.2.1 635) (σ.2.2.2.1 637)) H → va_S A s.heap H locs → ∀ (ls : Array Slot), lv_has ls 4 [(0, .ref (ad 500)), (1, .int x1), (2, .int x2)] → W p l e rmM_layValues s m args below meth c0 H locs 0 0 Q (F0 m 44 ls [])) → W p l e rmM_layValues s m args below meth c0 H locs 0 0 Q (F0 m 2 ls []) := by
    refine loop_P (fun st2 ex2 o2 hf ih2 hx2 => ?_)
    obtain ⟨y1, a2, a3⟩ := st2
    intro H locs (hP : PM D G ad (sgM_layValues σ a2 (σ.2.2.1 636) a3 (σ.2.2.2.1 635) (σ.2.2.2.1 637)) H) hS ls (hl : lv_has ls 4 [(0, .ref (ad 500)), (1, .int x1), (2, .int x2), (3, .int y1)]) KE2_0
    dsimp only [mo_layValues_L2] at hf
    refine lv_iload_n hx hb dX16_layValues_2 rfl (lv_at hl 3 rfl) ?_
    refine lv_sipush hx hb dX16_layValues_3 sp_7290 ?_
    refine lv_icmp_ge (tgt := 44) hx hb dX16_layValues_6 (by decide) (fun c4 => ?_) (fun c4 => ?_)
    · have hf := ifT c4 hf
      exact KE2_0 _ _ (hx2 _ (Option.some.inj hf).symm).symm H locs hP hS ls (lv_sub hl [0, 1, 2] rfl)
    · have hf := ifF c4 hf
      refine lv_aload_n hx hb dX16_layValues_9 rfl (lv_at hl 0 rfl) ?_
      refine gM_30 E hK hP dX16_layValues_10 ?_
      refine lv_sipush hx hb dX16_layValues_13 sp_7290 ?_
      refine lv_iload_n hx hb dX16_layValues_16 rfl (lv_at hl 1 rfl) ?_
      refine lv_imul hx hb dX16_layValues_17 ?_
      refine lv_iload_n hx hb dX16_layValues_18 rfl (lv_at hl 3 rfl) ?_
      refine lv_iadd hx hb dX16_layValues_19 ?_
      refine lv_ldc2 hx hb hown (hts _ q2050) dX16_layValues_20 ?_
      obtain ⟨a5, ha5, hf⟩ := bdP hf
      refine p_last hx hb hK hP hS (hA _ (PA_c dM_630)) dM_630 sgM_layValues_raL630 ha5 sgM_layValues_aL630 dX16_layValues_23 (fun H locs hP hS => ?_)
      refine lv_aload_n hx hb dX16_layValues_24 rfl (lv_at hl 0 rfl) ?_
      refine gM_31 E hK hP dX16_layValues_25 ?_
      refine lv_sipush hx hb dX16_layValues_28 sp_7290 ?_
      refine lv_iload_n hx hb dX16_layValues_31 rfl (lv_at hl 1 rfl) ?_
      refine lv_imul hx hb dX16_layValues_32 ?_
      refine lv_iload_n hx hb dX16_layValues_33 rfl (lv_at hl 3 rfl) ?_
      refine lv_iadd hx hb dX16_layValues_34 ?_
      refine lv_bipush hx hb dX16_layValues_35 bp_m2 ?_
      obtain ⟨a6, ha6, hf⟩ := bdP hf
      refine p_iast hx hb hK hP hS (hA _ (PA_c dM_631)) dM_631 sgM_layValues_raI631 ha6 sgM_layValues_aI631 dX16_layValues_37 (fun H locs hP hS => ?_)
      obtain ⟨v7, hv7, hf⟩ := bdP hf
      refine lv_iinc (v := v7) (lv' := [(3, .int v7), (0, .ref (ad 500)), (1, .int x1), (2, .int x2)]) hx hb dX16_layValues_38 hl (k := 3) rfl (Option.some.inj hv7) (by decide) rfl (fun ls hl => ?_)
      refine lv_goto (tgt := 2) hx hb dX16_layValues_41 (by decide) ?_
      exact ih2 _ (Option.some.inj hf).symm H locs hP hS ls (lv_sub hl [1, 2, 3, 0] rfl) KE2_0
  obtain ⟨ex2, hlp2, hf⟩ := bdP hf
  refine LP2 (0, (σ.2.2.1 631), (σ.2.2.2.1 630)) ex2 hlp2 H locs hP hS ls (lv_sub hl [1, 2, 3, 0] rfl) ?_
  intro a8 a9 hex2 H locs hP hS ls hl
  subst ex2
  dsimp only at hf
  refine lv_aload_n hx hb dX16_layValues_44 rfl (lv_at hl 0 rfl) ?_
  refine gM_11 E hK hP dX16_layValues_45 ?_
  refine lv_bipush hx hb dX16_layValues_48 bp_7 ?_
  obtain ⟨v10, hv10, hf⟩ := bdP hf
  refine p_iald hx hb hK hP dM_611 sgM_layValues_raI611 hv10 dX16_layValues_50 ?_
  refine lv_iconst hx hb dX16_layValues_51 ic_m1 ?_
  refine lv_icmp_ne (tgt := 56) hx hb dX16_layValues_52 (by decide) (fun c11 => ?_) (fun c11 => ?_)
  · have hf := ifF c11 hf
    refine lv_iconst hx hb dX16_layValues_56 ic_0 ?_
    refine lv_istore_n (lv' := [(3, .int 0), (0, .ref (ad 500)), (1, .int x1), (2, .int x2)]) hx hb dX16_layValues_57 rfl hl (by decide) rfl (fun ls hl => ?_)
    have LP58 : ∀ (st58 : Int32 × (Nat → Int32) × (Nat → Int32) × (Nat → Int64) × (Nat → Int64) × (Nat → Int64)) (ex58 : ((Nat → Int32) × (Nat → Int32) × (Nat → Int64) × (Nat → Int64) × (Nat → Int64))), loop (mo_layValues_L58 (σ.1 523) (σ.2.2.1 611) (σ.2.2.1 615) (σ.2.2.1 618) (σ.2.2.1 620) (σ.2.2.1 621) (σ.2.2.1 624) (σ.2.2.1 625) (σ.2.2.2.1 628) (σ.2.2.2.1 634) x1 x2) st58 = some ex58 → ∀ (H : Heap) (locs : List Loc), PM D G ad (sgM_layValues σ (st58.2.1) (st58.2.2.1) (st58.2.2.2.1) (st58.2.2.2.2.1) (st58.2.2.2.2.2)) H → va_S A s.heap H locs → ∀ (ls : Array Slot), lv_has ls 4 [(0, .ref (ad 500)), (1, .int x1), (2, .int x2), (3, .int (st58.1))] → (∀ (a35 : Nat → Int32) (a36 : Nat → Int32) (a37 : Nat → Int64) (a38 : Nat → Int64) (a39 : Nat → Int64), ex58 = (a35, a36, a37, a38, a39) → ∀ (H : Heap) (locs : List Loc), PM D G ad (sgM_layValues σ a35 a36 a37 a38 a39) H → va_S A s.heap H locs → ∀ (ls : Array Slot), lv_has ls 4 [] → W p l e rmM_layValues s m args below meth c0 H locs 0 0 Q (F0 m 100 ls [])) → W p l e rmM_layValues s m args below meth c0 H locs 0 0 Q (F0 m 58 ls []) := by
      refine loop_P (fun st58 ex58 o58 hf ih58 hx58 => ?_)
      obtain ⟨y12, a13, a14, a15, a16, a17⟩ := st58
      intro H locs (hP : PM D G ad (sgM_layValues σ a13 a14 a15 a16 a17) H) hS ls (hl : lv_has ls 4 [(0, .ref (ad 500)), (1, .int x1), (2, .int x2), (3, .int y12)]) KE58_0
      dsimp only [mo_layValues_L58] at hf
      refine lv_iload_n hx hb dX16_layValues_58 rfl (lv_at hl 3 rfl) ?_
      refine lv_aload_n hx hb dX16_layValues_59 rfl (lv_at hl 0 rfl) ?_
      refine gM_23 (v := (σ.1 523)) E hK hP sgM_layValues_rzI523 dX16_layValues_60 ?_
      refine lv_icmp_ge (tgt := 100) hx hb dX16_layValues_63 (by decide) (fun c18 => ?_) (fun c18 => ?_)
      · have hf := ifT c18 hf
        exact KE58_0 _ _ _ _ _ (hx58 _ (Option.some.inj hf).symm).symm H locs hP hS ls (lv_sub hl [] rfl)
      · have hf := ifF c18 hf
        refine lv_aload_n hx hb dX16_layValues_66 rfl (lv_at hl 0 rfl) ?_
        refine gM_28 E hK hP dX16_layValues_67 ?_
        refine lv_aload_n hx hb dX16_layValues_70 rfl (lv_at hl 0 rfl) ?_
        refine gM_25 E hK hP dX16_layValues_71 ?_
        refine lv_iload_n hx hb dX16_layValues_74 rfl (lv_at hl 3 rfl) ?_
        obtain ⟨v19, hv19, hf⟩ := bdP hf
        refine p_iald hx hb hK hP dM_625 sgM_layValues_raI625 hv19 dX16_layValues_75 ?_
        obtain ⟨v20, hv20, hf⟩ := bdP hf
        refine p_lald hx hb hK hP dM_628 sgM_layValues_raL628 hv20 dX16_layValues_76 ?_
        refine lv_lconst hx hb dX16_layValues_77 lc_0 ?_
        refine W.lcmp hx hb dX16_layValues_78 ?_
        have J94 : ∀ (a21 : Nat → Int32) (a22 : Nat → Int32) (a23 : Nat → Int64) (a24 : Nat → Int64) (a25 : Nat → Int64), mo_layValues_J94 y12 a21 a22 a23 a24 a25 = some o58 → ∀ (H : Heap) (locs : List Loc), PM D G ad (sgM_layValues σ a21 a22 a23 a24 a25) H → va_S A s.heap H locs → ∀ (ls : Array Slot), lv_has ls 4 [(0, .ref (ad 500)), (1, .int x1), (2, .int x2), (3, .int y12)] → W p l e rmM_layValues s m args below meth c0 H locs 0 0 Q (F0 m 94 ls []) := by
          intro a21 a22 a23 a24 a25 hf H locs hP hS ls hl
          unfold mo_layValues_J94 at hf
          obtain ⟨v26, hv26, hf⟩ := bdP hf
          refine lv_iinc (v := v26) (lv' := [(3, .int v26), (0, .ref (ad 500)), (1, .int x1), (2, .int x2)]) hx hb dX16_layValues_94 hl (k := 3) rfl (Option.some.inj hv26) (by decide) rfl (fun ls hl => ?_)
          refine lv_goto (tgt := 58) hx hb dX16_layValues_97 (by decide) ?_
          exact ih58 _ (Option.some.inj hf).symm H locs hP hS ls (lv_sub hl [1, 2, 3, 0] rfl) KE58_0
        refine lv_if_le (tgt := 94) hx hb dX16_layValues_79 (by decide) (fun c27 => ?_) (fun c27 => ?_)
        · have hf := ifT ((lgc_le _ _).mp c27) hf
          exact J94 a13 a14 a15 a16 a17 hf H locs hP hS ls (lv_sub hl [0, 1, 2, 3] rfl)
        · have hf := ifF (mt (lgc_le _ _).mpr c27) hf
          refine lv_aload_n hx hb dX16_layValues_82 rfl (lv_at hl 0 rfl) ?_
          refine lv_iload_n hx hb dX16_layValues_83 rfl (lv_at hl 1 rfl) ?_
          refine lv_iload_n hx hb dX16_layValues_84 rfl (lv_at hl 2 rfl) ?_
          refine lv_aload_n hx hb dX16_layValues_85 rfl (lv_at hl 0 rfl) ?_
          refine gM_25 E hK hP dX16_layValues_86 ?_
          refine lv_iload_n hx hb dX16_layValues_89 rfl (lv_at hl 3 rfl) ?_
          obtain ⟨v28, hv28, hf⟩ := bdP hf
          refine p_iald hx hb hK hP dM_625 sgM_layValues_raI625 hv28 dX16_layValues_90 ?_
          obtain ⟨⟨a29, a30, a31, a32, a33⟩, u34, hf⟩ := bdP hf
          dsimp only at hf
          refine cM_layOne E hK hP hS hA sgM_layValues_raI611 sgM_layValues_raI615 sgM_layValues_raI618 sgM_layValues_raI620 sgM_layValues_raI621 sgM_layValues_raI624 sgM_layValues_raI631 sgM_layValues_raI636 sgM_layValues_raL628 sgM_layValues_raL630 sgM_layValues_raL634 sgM_layValues_raL635 sgM_layValues_raL637 u34 ⟨Nat.le_of_ble_eq_true rfl, Nat.le_of_ble_eq_true rfl⟩ ⟨Nat.zero_le _, Nat.zero_le _⟩ hl.1 (Nat.le_of_ble_eq_true rfl) dX16_layValues_91 (fun H locs hP hS => ?_)
          rw [sgM_layValues_aI631, sgM_layValues_aI636, sgM_layValues_aL630, sgM_layValues_aL635, sgM_layValues_aL637] at hP
          exact J94 a29 a30 a31 a32 a33 hf H locs hP hS ls (lv_sub hl [0, 1, 2, 3] rfl)
    obtain ⟨ex58, hlp58, hf⟩ := bdP hf
    refine LP58 (0, a8, (σ.2.2.1 636), a9, (σ.2.2.2.1 635), (σ.2.2.2.1 637)) ex58 hlp58 H locs hP hS ls (lv_sub hl [1, 2, 3, 0] rfl) ?_
    intro a35 a36 a37 a38 a39 hex58 H locs hP hS ls hl
    subst ex58
    dsimp only at hf
    cases hf
    rw [hQ]; exact p_vret hx hb hr hlk hK hP hS dX16_layValues_100
  · have hf := ifT c11 hf
    cases hf
    rw [hQ]; exact p_vret hx hb hr hlk hK hP hS dX16_layValues_55
theorem kM_layValues (l : Launch) (D : va_G) (G : Nat → ClassId) (ad : Nat → Nat) (σ : Sto) {x1 : Int32} {x2 : Int32} {w_aI631 : Nat → Int32} {w_aI636 : Nat → Int32} {w_aL630 : Nat → Int64} {w_aL635 : Nat → Int64} {w_aL637 : Nat → Int64} (hf : mo_layValues (σ.1 523) (σ.2.2.1 611) (σ.2.2.1 615) (σ.2.2.1 618) (σ.2.2.1 620) (σ.2.2.1 621) (σ.2.2.1 624) (σ.2.2.1 625) (σ.2.2.1 631) (σ.2.2.1 636) (σ.2.2.2.1 628) (σ.2.2.2.1 630) (σ.2.2.2.1 634) (σ.2.2.2.1 635) (σ.2.2.2.1 637) x1 x2 = some (w_aI631, w_aI636, w_aL630, w_aL635, w_aL637)) : CtV l D clsA G dscM ad yX16_layValues (ws_ yX16_layValues cX16_layValues 4 (Option.none : Option Jvm.ClassFile.FieldType)) rmM_layValues [.ref (ad 500), .int x1, .int x2] σ (sgM_layValues σ w_aI631 w_aI636 w_aL630 w_aL635 w_aL637) :=
  p_ctV (by decide +kernel) (Nat.le_of_ble_eq_true rfl) (fun p e s m below meth c0 ls A E hP hK hA hS hl => wkM_layValues E hK hA hf rfl hP hS hl)
theorem cM_layValues (E : EN p s m args meth c0 RX16 cc nL ret) (hK : KK D clsA G s) (hP : PM D G ad σ H) (hS : va_S A s.heap H locs) (hA : ∀ q, PA dscM ad s.heap.size q → A q) {x1 : Int32} {x2 : Int32} {w_aI631 : Nat → Int32} {w_aI636 : Nat → Int32} {w_aL630 : Nat → Int64} {w_aL635 : Nat → Int64} {w_aL637 : Nat → Int64} {z_knowings : Int32} (e_zI523 : σ.1 523 = z_knowings) {a_many : Nat → Int32} (e_aI611 : σ.2.2.1 611 = a_many) {a_road : Nat → Int32} (e_aI615 : σ.2.2.1 615 = a_road) {a_word : Nat → Int32} (e_aI618 : σ.2.2.1 618 = a_word) {a_seen : Nat → Int32} (e_aI620 : σ.2.2.1 620 = a_seen) {a_between : Nat → Int32} (e_aI621 : σ.2.2.1 621 = a_between) {a_three : Nat → Int32} (e_aI624 : σ.2.2.1 624 = a_three) {a_turn : Nat → Int32} (e_aI625 : σ.2.2.1 625 = a_turn) {a_act : Nat → Int32} (e_aI631 : σ.2.2.1 631 = a_act) {a_isNews : Nat → Int32} (e_aI636 : σ.2.2.1 636 = a_isNews) {a_likely : Nat → Int64} (e_aL628 : σ.2.2.2.1 628 = a_likely) {a_value : Nat → Int64} (e_aL630 : σ.2.2.2.1 630 = a_value) {a_term : Nat → Int64} (e_aL634 : σ.2.2.2.1 634 = a_term) {a_coming : Nat → Int64} (e_aL635 : σ.2.2.2.1 635 = a_coming) {a_bought : Nat → Int64} (e_aL637 : σ.2.2.2.1 637 = a_bought) (hu : mo_layValues z_knowings a_many a_road a_word a_seen a_between a_three a_turn a_act a_isNews a_likely a_value a_term a_coming a_bought x1 x2 = some (w_aI631, w_aI636, w_aL630, w_aL635, w_aL637)) (hR : rmM_layValues.frames + 1 ≤ R.frames ∧ 8 + (4 + 11) + rmM_layValues.locals ≤ R.locals) (hcs : cells ≤ R.cells ∧ slots ≤ R.slots) (hsz : ls.size = nL) (hW : (rest.map fun v => v.category).sum ≤ 8) (hdg : decode cc pc = .ok (.invokevirtual 355, 3)) (kk : ∀ (H1 : Heap) (locs1 : List Loc), PM D G ad (aL (aL (aL (aI (aI σ 631 w_aI631) 636 w_aI636) 630 w_aL630) 635 w_aL635) 637 w_aL637) H1 → va_S A s.heap H1 locs1 → W p l e R s m args below meth c0 H1 locs1 cells slots Q (F0 m (pc + 3) ls rest)) : W p l e R s m args below meth c0 H locs cells slots Q (F0 m pc ls (.int x2 :: .int x1 :: .ref (ad 500) :: rest)) := by
  subst e_zI523
  subst e_aI611
  subst e_aI615
  subst e_aI618
  subst e_aI620
  subst e_aI621
  subst e_aI624
  subst e_aI625
  subst e_aI631
  subst e_aI636
  subst e_aL628
  subst e_aL630
  subst e_aL634
  subst e_aL635
  subst e_aL637
  exact p_callV (As := [.int x1, .int x2]) (rest := rest) E.1 hK hP hS hA (kM_layValues l D G ad σ hu) (cwV 2 E.1.2.2.2.2 (lw_V q2046 q2048 qs88 q142 q2049) rfl rfl rfl (by decide +kernel) hR) dM_500 rfl rfl rfl hsz rfl hW hdg hcs kk
/-! layBest()V -/
def sgM_layBest (σ : Sto) (w0 : Nat → Int32) (w1 : Nat → Int32) (w2 : Nat → Int32) (w3 : Nat → Int64) (w4 : Nat → Int64) (w5 : Nat → Int64) : Sto := aL (aL (aL (aI (aI (aI σ 631 w0) 632 w1) 636 w2) 630 w3) 635 w4) 637 w5
theorem sgM_layBest_self (σ : Sto) : sgM_layBest σ (σ.2.2.1 631) (σ.2.2.1 632) (σ.2.2.1 636) (σ.2.2.2.1 630) (σ.2.2.2.1 635) (σ.2.2.2.1 637) = σ := by
  unfold sgM_layBest
  simp only [zI_self, zL_self, aI_self, aL_self]
theorem sgM_layBest_aI631 {σ : Sto} {w0 : Nat → Int32} {w1 : Nat → Int32} {w2 : Nat → Int32} {w3 : Nat → Int64} {w4 : Nat → Int64} {w5 : Nat → Int64} {g : Nat → Int32} : aI (sgM_layBest σ w0 w1 w2 w3 w4 w5) 631 g = sgM_layBest σ g w1 w2 w3 w4 w5 := (cm_aI_aL _ _ _ _ _).trans (congrArg (fun z => aL z 637 w5) ((cm_aI_aL _ _ _ _ _).trans (congrArg (fun z => aL z 635 w4) ((cm_aI_aL _ _ _ _ _).trans (congrArg (fun z => aL z 630 w3) ((aI_comm _ (by decide) _ _).trans (congrArg (fun z => aI z 636 w2) ((aI_comm _ (by decide) _ _).trans (congrArg (fun z => aI z 632 w1) (aI_aI _ 631 _ _))))))))))
theorem sgM_layBest_aI632 {σ : Sto} {w0 : Nat → Int32} {w1 : Nat → Int32} {w2 : Nat → Int32} {w3 : Nat → Int64} {w4 : Nat → Int64} {w5 : Nat → Int64} {g : Nat → Int32} : aI (sgM_layBest σ w0 w1 w2 w3 w4 w5) 632 g = sgM_layBest σ w0 g w2 w3 w4 w5 := (cm_aI_aL _ _ _ _ _).trans (congrArg (fun z => aL z 637 w5) ((cm_aI_aL _ _ _ _ _).trans (congrArg (fun z => aL z 635 w4) ((cm_aI_aL _ _ _ _ _).trans (congrArg (fun z => aL z 630 w3) ((aI_comm _ (by decide) _ _).trans (congrArg (fun z => aI z 636 w2) (aI_aI _ 632 _ _))))))))
theorem sgM_layBest_aI636 {σ : Sto} {w0 : Nat → Int32} {w1 : Nat → Int32} {w2 : Nat → Int32} {w3 : Nat → Int64} {w4 : Nat → Int64} {w5 : Nat → Int64} {g : Nat → Int32} : aI (sgM_layBest σ w0 w1 w2 w3 w4 w5) 636 g = sgM_layBest σ w0 w1 g w3 w4 w5 := (cm_aI_aL _ _ _ _ _).trans (congrArg (fun z => aL z 637 w5) ((cm_aI_aL _ _ _ _ _).trans (congrArg (fun z => aL z 635 w4) ((cm_aI_aL _ _ _ _ _).trans (congrArg (fun z => aL z 630 w3) (aI_aI _ 636 _ _))))))
theorem sgM_layBest_aL630 {σ : Sto} {w0 : Nat → Int32} {w1 : Nat → Int32} {w2 : Nat → Int32} {w3 : Nat → Int64} {w4 : Nat → Int64} {w5 : Nat → Int64} {g : Nat → Int64} : aL (sgM_layBest σ w0 w1 w2 w3 w4 w5) 630 g = sgM_layBest σ w0 w1 w2 g w4 w5 := (aL_comm _ (by decide) _ _).trans (congrArg (fun z => aL z 637 w5) ((aL_comm _ (by decide) _ _).trans (congrArg (fun z => aL z 635 w4) (aL_aL _ 630 _ _))))
theorem sgM_layBest_aL635 {σ : Sto} {w0 : Nat → Int32} {w1 : Nat → Int32} {w2 : Nat → Int32} {w3 : Nat → Int64} {w4 : Nat → Int64} {w5 : Nat → Int64} {g : Nat → Int64} : aL (sgM_layBest σ w0 w1 w2 w3 w4 w5) 635 g = sgM_layBest σ w0 w1 w2 w3 g w5 := (aL_comm _ (by decide) _ _).trans (congrArg (fun z => aL z 637 w5) (aL_aL _ 635 _ _))
theorem sgM_layBest_aL637 {σ : Sto} {w0 : Nat → Int32} {w1 : Nat → Int32} {w2 : Nat → Int32} {w3 : Nat → Int64} {w4 : Nat → Int64} {w5 : Nat → Int64} {g : Nat → Int64} : aL (sgM_layBest σ w0 w1 w2 w3 w4 w5) 637 g = sgM_layBest σ w0 w1 w2 w3 w4 g := aL_aL _ 637 _ _
theorem sgM_layBest_rzI523 {σ : Sto} {w0 : Nat → Int32} {w1 : Nat → Int32} {w2 : Nat → Int32} {w3 : Nat → Int64} {w4 : Nat → Int64} {w5 : Nat → Int64} : (sgM_layBest σ w0 w1 w2 w3 w4 w5).1 523 = σ.1 523 := rfl
theorem sgM_layBest_raI611 {σ : Sto} {w0 : Nat → Int32} {w1 : Nat → Int32} {w2 : Nat → Int32} {w3 : Nat → Int64} {w4 : Nat → Int64} {w5 : Nat → Int64} : (sgM_layBest σ w0 w1 w2 w3 w4 w5).2.2.1 611 = σ.2.2.1 611 := rfl
theorem sgM_layBest_raI615 {σ : Sto} {w0 : Nat → Int32} {w1 : Nat → Int32} {w2 : Nat → Int32} {w3 : Nat → Int64} {w4 : Nat → Int64} {w5 : Nat → Int64} : (sgM_layBest σ w0 w1 w2 w3 w4 w5).2.2.1 615 = σ.2.2.1 615 := rfl
theorem sgM_layBest_raI618 {σ : Sto} {w0 : Nat → Int32} {w1 : Nat → Int32} {w2 : Nat → Int32} {w3 : Nat → Int64} {w4 : Nat → Int64} {w5 : Nat → Int64} : (sgM_layBest σ w0 w1 w2 w3 w4 w5).2.2.1 618 = σ.2.2.1 618 := rfl
theorem sgM_layBest_raI620 {σ : Sto} {w0 : Nat → Int32} {w1 : Nat → Int32} {w2 : Nat → Int32} {w3 : Nat → Int64} {w4 : Nat → Int64} {w5 : Nat → Int64} : (sgM_layBest σ w0 w1 w2 w3 w4 w5).2.2.1 620 = σ.2.2.1 620 := rfl
theorem sgM_layBest_raI621 {σ : Sto} {w0 : Nat → Int32} {w1 : Nat → Int32} {w2 : Nat → Int32} {w3 : Nat → Int64} {w4 : Nat → Int64} {w5 : Nat → Int64} : (sgM_layBest σ w0 w1 w2 w3 w4 w5).2.2.1 621 = σ.2.2.1 621 := rfl
theorem sgM_layBest_raI624 {σ : Sto} {w0 : Nat → Int32} {w1 : Nat → Int32} {w2 : Nat → Int32} {w3 : Nat → Int64} {w4 : Nat → Int64} {w5 : Nat → Int64} : (sgM_layBest σ w0 w1 w2 w3 w4 w5).2.2.1 624 = σ.2.2.1 624 := rfl
theorem sgM_layBest_raI625 {σ : Sto} {w0 : Nat → Int32} {w1 : Nat → Int32} {w2 : Nat → Int32} {w3 : Nat → Int64} {w4 : Nat → Int64} {w5 : Nat → Int64} : (sgM_layBest σ w0 w1 w2 w3 w4 w5).2.2.1 625 = σ.2.2.1 625 := rfl
theorem sgM_layBest_raI631 {σ : Sto} {w0 : Nat → Int32} {w1 : Nat → Int32} {w2 : Nat → Int32} {w3 : Nat → Int64} {w4 : Nat → Int64} {w5 : Nat → Int64} : (sgM_layBest σ w0 w1 w2 w3 w4 w5).2.2.1 631 = w0 := rfl
theorem sgM_layBest_raI632 {σ : Sto} {w0 : Nat → Int32} {w1 : Nat → Int32} {w2 : Nat → Int32} {w3 : Nat → Int64} {w4 : Nat → Int64} {w5 : Nat → Int64} : (sgM_layBest σ w0 w1 w2 w3 w4 w5).2.2.1 632 = w1 := rfl
theorem sgM_layBest_raI636 {σ : Sto} {w0 : Nat → Int32} {w1 : Nat → Int32} {w2 : Nat → Int32} {w3 : Nat → Int64} {w4 : Nat → Int64} {w5 : Nat → Int64} : (sgM_layBest σ w0 w1 w2 w3 w4 w5).2.2.1 636 = w2 := rfl
theorem sgM_layBest_raL628 {σ : Sto} {w0 : Nat → Int32} {w1 : Nat → Int32} {w2 : Nat → Int32} {w3 : Nat → Int64} {w4 : Nat → Int64} {w5 : Nat → Int64} : (sgM_layBest σ w0 w1 w2 w3 w4 w5).2.2.2.1 628 = σ.2.2.2.1 628 := rfl
theorem sgM_layBest_raL630 {σ : Sto} {w0 : Nat → Int32} {w1 : Nat → Int32} {w2 : Nat → Int32} {w3 : Nat → Int64} {w4 : Nat → Int64} {w5 : Nat → Int64} : (sgM_layBest σ w0 w1 w2 w3 w4 w5).2.2.2.1 630 = w3 := rfl
theorem sgM_layBest_raL634 {σ : Sto} {w0 : Nat → Int32} {w1 : Nat → Int32} {w2 : Nat → Int32} {w3 : Nat → Int64} {w4 : Nat → Int64} {w5 : Nat → Int64} : (sgM_layBest σ w0 w1 w2 w3 w4 w5).2.2.2.1 634 = σ.2.2.2.1 634 := rfl
theorem sgM_layBest_raL635 {σ : Sto} {w0 : Nat → Int32} {w1 : Nat → Int32} {w2 : Nat → Int32} {w3 : Nat → Int64} {w4 : Nat → Int64} {w5 : Nat → Int64} : (sgM_layBest σ w0 w1 w2 w3 w4 w5).2.2.2.1 635 = w4 := rfl
theorem sgM_layBest_raL637 {σ : Sto} {w0 : Nat → Int32} {w1 : Nat → Int32} {w2 : Nat → Int32} {w3 : Nat → Int64} {w4 : Nat → Int64} {w5 : Nat → Int64} : (sgM_layBest σ w0 w1 w2 w3 w4 w5).2.2.2.1 637 = w5 := rfl
abbrev rmM_layBest : Room := { frames := 6, cells := 0, slots := 0, locals := 156 }
set_option maxHeartbeats 4000000 in
theorem wkM_layBest  {w_aI631 : Nat → Int32} {w_aI632 : Nat → Int32} {w_aI636 : Nat → Int32} {w_aL630 : Nat → Int64} {w_aL635 : Nat → Int64} {w_aL637 : Nat → Int64} (E : EN p s m args meth c0 RX16 cX16_layBest 1 (Option.none : Option Jvm.ClassFile.FieldType)) (hK : KK D clsA G s) (hA : ∀ q, PA dscM ad s.heap.size q → A q) (hf : mo_layBest (σ.1 523) (σ.2.2.1 611) (σ.2.2.1 615) (σ.2.2.1 618) (σ.2.2.1 620) (σ.2.2.1 621) (σ.2.2.1 624) (σ.2.2.1 625) (σ.2.2.1 631) (σ.2.2.1 632) (σ.2.2.1 636) (σ.2.2.2.1 628) (σ.2.2.2.1 630) (σ.2.2.2.1 634) (σ.2.2.2.1 635) (σ.2.2.2.1 637) = some (w_aI631, w_aI632, w_aI636, w_aL630, w_aL635, w_aL637)) (hQ : Q = MQ below (va_Qv (fun (_ : Unit) => True) (fun _ t => PM D G ad (sgM_layBest σ w_aI631 w_aI632 w_aI636 w_aL630 w_aL635 w_aL637) t.heap ∧ KK D clsA G t) A) args s 0 0 A) (hP : PM D G ad σ H) (hS : va_S A s.heap H locs) (hl : lv_has ls 1 [(0, .ref (ad 500))]) : W p l e rmM_layBest s m args below meth c0 H locs 0 0 Q (F0 m 0 ls []) := by
  obtain ⟨⟨hx, hb, hml, hown, hts⟩, hr, hlk⟩ := id E
  have hP := hP.to (sgM_layBest_self σ).symm
  unfold mo_layBest at hf
  refine lv_aload_n hx hb dX16_layBest_0 rfl (lv_at hl 0 rfl) ?_
  refine gM_32 E hK hP dX16_layBest_1 ?_
  refine lv_iconst hx hb dX16_layBest_4 ic_0 ?_
  obtain ⟨v1, hv1, hf⟩ := bdP hf
  refine p_zald hx hb hK hP dM_632 sgM_layBest_raI632 hv1 dX16_layBest_5 ?_
  refine lv_if_eq (tgt := 10) hx hb dX16_layBest_6 (by decide) (fun c2 => ?_) (fun c2 => ?_)
  · have hf := ifT c2 hf
    refine lv_aload_n hx hb dX16_layBest_10 rfl (lv_at hl 0 rfl) ?_
    refine gM_32 E hK hP dX16_layBest_11 ?_
    refine lv_iconst hx hb dX16_layBest_14 ic_0 ?_
    refine lv_iconst hx hb dX16_layBest_15 ic_1 ?_
    obtain ⟨a3, ha3, hf⟩ := bdP hf
    refine p_zast hx hb hK hP hS (hA _ (PA_c dM_632)) dM_632 sgM_layBest_raI632 ha3 sgM_layBest_aI632 dX16_layBest_16 (fun H locs hP hS => ?_)
    refine lv_aload_n hx hb dX16_layBest_17 rfl (lv_at hl 0 rfl) ?_
    refine lv_iconst hx hb dX16_layBest_18 ic_0 ?_
    refine lv_iconst hx hb dX16_layBest_19 ic_1 ?_
    obtain ⟨⟨a4, a5, a6, a7, a8⟩, u9, hf⟩ := bdP hf
    dsimp only at hf
    refine cM_layValues E hK hP hS hA sgM_layBest_rzI523 sgM_layBest_raI611 sgM_layBest_raI615 sgM_layBest_raI618 sgM_layBest_raI620 sgM_layBest_raI621 sgM_layBest_raI624 sgM_layBest_raI625 sgM_layBest_raI631 sgM_layBest_raI636 sgM_layBest_raL628 sgM_layBest_raL630 sgM_layBest_raL634 sgM_layBest_raL635 sgM_layBest_raL637 u9 ⟨Nat.le_of_ble_eq_true rfl, Nat.le_of_ble_eq_true rfl⟩ ⟨Nat.zero_le _, Nat.zero_le _⟩ hl.1 (Nat.le_of_ble_eq_true rfl) dX16_layBest_20 (fun H locs hP hS => ?_)
    rw [sgM_layBest_aI631, sgM_layBest_aI636, sgM_layBest_aL630, sgM_layBest_aL635, sgM_layBest_aL637] at hP
    cases hf
    rw [hQ]; exact p_vret hx hb hr hlk hK hP hS dX16_layBest_23
  · have hf := ifF c2 hf
    cases hf
    rw [hQ]; exact p_vret hx hb hr hlk hK hP hS dX16_layBest_9
theorem kM_layBest (l : Launch) (D : va_G) (G : Nat → ClassId) (ad : Nat → Nat) (σ : Sto) {w_aI631 : Nat → Int32} {w_aI632 : Nat → Int32} {w_aI636 : Nat → Int32} {w_aL630 : Nat → Int64} {w_aL635 : Nat → Int64} {w_aL637 : Nat → Int64} (hf : mo_layBest (σ.1 523) (σ.2.2.1 611) (σ.2.2.1 615) (σ.2.2.1 618) (σ.2.2.1 620) (σ.2.2.1 621) (σ.2.2.1 624) (σ.2.2.1 625) (σ.2.2.1 631) (σ.2.2.1 632) (σ.2.2.1 636) (σ.2.2.2.1 628) (σ.2.2.2.1 630) (σ.2.2.2.1 634) (σ.2.2.2.1 635) (σ.2.2.2.1 637) = some (w_aI631, w_aI632, w_aI636, w_aL630, w_aL635, w_aL637)) : CtV l D clsA G dscM ad yX16_layBest (ws_ yX16_layBest cX16_layBest 1 (Option.none : Option Jvm.ClassFile.FieldType)) rmM_layBest [.ref (ad 500)] σ (sgM_layBest σ w_aI631 w_aI632 w_aI636 w_aL630 w_aL635 w_aL637) :=
  p_ctV (by decide +kernel) (Nat.le_of_ble_eq_true rfl) (fun p e s m below meth c0 ls A E hP hK hA hS hl => wkM_layBest E hK hA hf rfl hP hS hl)
theorem cM_layBest (E : EN p s m args meth c0 RX16 cc nL ret) (hK : KK D clsA G s) (hP : PM D G ad σ H) (hS : va_S A s.heap H locs) (hA : ∀ q, PA dscM ad s.heap.size q → A q) {w_aI631 : Nat → Int32} {w_aI632 : Nat → Int32} {w_aI636 : Nat → Int32} {w_aL630 : Nat → Int64} {w_aL635 : Nat → Int64} {w_aL637 : Nat → Int64} {z_knowings : Int32} (e_zI523 : σ.1 523 = z_knowings) {a_many : Nat → Int32} (e_aI611 : σ.2.2.1 611 = a_many) {a_road : Nat → Int32} (e_aI615 : σ.2.2.1 615 = a_road) {a_word : Nat → Int32} (e_aI618 : σ.2.2.1 618 = a_word) {a_seen : Nat → Int32} (e_aI620 : σ.2.2.1 620 = a_seen) {a_between : Nat → Int32} (e_aI621 : σ.2.2.1 621 = a_between) {a_three : Nat → Int32} (e_aI624 : σ.2.2.1 624 = a_three) {a_turn : Nat → Int32} (e_aI625 : σ.2.2.1 625 = a_turn) {a_act : Nat → Int32} (e_aI631 : σ.2.2.1 631 = a_act) {a_isLaid : Nat → Int32} (e_aI632 : σ.2.2.1 632 = a_isLaid) {a_isNews : Nat → Int32} (e_aI636 : σ.2.2.1 636 = a_isNews) {a_likely : Nat → Int64} (e_aL628 : σ.2.2.2.1 628 = a_likely) {a_value : Nat → Int64} (e_aL630 : σ.2.2.2.1 630 = a_value) {a_term : Nat → Int64} (e_aL634 : σ.2.2.2.1 634 = a_term) {a_coming : Nat → Int64} (e_aL635 : σ.2.2.2.1 635 = a_coming) {a_bought : Nat → Int64} (e_aL637 : σ.2.2.2.1 637 = a_bought) (hu : mo_layBest z_knowings a_many a_road a_word a_seen a_between a_three a_turn a_act a_isLaid a_isNews a_likely a_value a_term a_coming a_bought = some (w_aI631, w_aI632, w_aI636, w_aL630, w_aL635, w_aL637)) (hR : rmM_layBest.frames + 1 ≤ R.frames ∧ 8 + (1 + 11) + rmM_layBest.locals ≤ R.locals) (hcs : cells ≤ R.cells ∧ slots ≤ R.slots) (hsz : ls.size = nL) (hW : (rest.map fun v => v.category).sum ≤ 8) (hdg : decode cc pc = .ok (.invokevirtual 362, 3)) (kk : ∀ (H1 : Heap) (locs1 : List Loc), PM D G ad (aL (aL (aL (aI (aI (aI σ 631 w_aI631) 632 w_aI632) 636 w_aI636) 630 w_aL630) 635 w_aL635) 637 w_aL637) H1 → va_S A s.heap H1 locs1 → W p l e R s m args below meth c0 H1 locs1 cells slots Q (F0 m (pc + 3) ls rest)) : W p l e R s m args below meth c0 H locs cells slots Q (F0 m pc ls (.ref (ad 500) :: rest)) := by
  subst e_zI523
  subst e_aI611
  subst e_aI615
  subst e_aI618
  subst e_aI620
  subst e_aI621
  subst e_aI624
  subst e_aI625
  subst e_aI631
  subst e_aI632
  subst e_aI636
  subst e_aL628
  subst e_aL630
  subst e_aL634
  subst e_aL635
  subst e_aL637
  exact p_callV (As := []) (rest := rest) E.1 hK hP hS hA (kM_layBest l D G ad σ hu) (cwV 0 E.1.2.2.2.2 (lw_V q2042 q2044 qs87 q142 q2045) rfl rfl rfl (by decide +kernel) hR) dM_500 rfl rfl rfl hsz rfl hW hdg hcs kk
/-! layTerm()V -/
def sgM_layTerm (σ : Sto) (w0 : Nat → Int64) : Sto := aL σ 634 w0
theorem sgM_layTerm_self (σ : Sto) : sgM_layTerm σ (σ.2.2.2.1 634) = σ := by
  unfold sgM_layTerm
  simp only [zI_self, zL_self, aI_self, aL_self]
theorem sgM_layTerm_aL634 {σ : Sto} {w0 : Nat → Int64} {g : Nat → Int64} : aL (sgM_layTerm σ w0) 634 g = sgM_layTerm σ g := aL_aL _ 634 _ _
theorem sgM_layTerm_rzI523 {σ : Sto} {w0 : Nat → Int64} : (sgM_layTerm σ w0).1 523 = σ.1 523 := rfl
theorem sgM_layTerm_raI611 {σ : Sto} {w0 : Nat → Int64} : (sgM_layTerm σ w0).2.2.1 611 = σ.2.2.1 611 := rfl
theorem sgM_layTerm_raI624 {σ : Sto} {w0 : Nat → Int64} : (sgM_layTerm σ w0).2.2.1 624 = σ.2.2.1 624 := rfl
theorem sgM_layTerm_raI625 {σ : Sto} {w0 : Nat → Int64} : (sgM_layTerm σ w0).2.2.1 625 = σ.2.2.1 625 := rfl
theorem sgM_layTerm_raL628 {σ : Sto} {w0 : Nat → Int64} : (sgM_layTerm σ w0).2.2.2.1 628 = σ.2.2.2.1 628 := rfl
theorem sgM_layTerm_raL633 {σ : Sto} {w0 : Nat → Int64} : (sgM_layTerm σ w0).2.2.2.1 633 = σ.2.2.2.1 633 := rfl
theorem sgM_layTerm_raL634 {σ : Sto} {w0 : Nat → Int64} : (sgM_layTerm σ w0).2.2.2.1 634 = w0 := rfl
abbrev rmM_layTerm : Room := { frames := 2, cells := 0, slots := 0, locals := 45 }
set_option maxHeartbeats 4000000 in
theorem wkM_layTerm  {w_aL634 : Nat → Int64} (E : EN p s m args meth c0 RX16 cX16_layTerm 8 (Option.none : Option Jvm.ClassFile.FieldType)) (hK : KK D clsA G s) (hA : ∀ q, PA dscM ad s.heap.size q → A q) (hf : mo_layTerm (σ.1 523) (σ.2.2.1 611) (σ.2.2.1 624) (σ.2.2.1 625) (σ.2.2.2.1 628) (σ.2.2.2.1 633) (σ.2.2.2.1 634) = some w_aL634) (hQ : Q = MQ below (va_Qv (fun (_ : Unit) => True) (fun _ t => PM D G ad (sgM_layTerm σ w_aL634) t.heap ∧ KK D clsA G t) A) args s 0 0 A) (hP : PM D G ad σ H) (hS : va_S A s.heap H locs) (hl : lv_has ls 8 [(0, .ref (ad 500))]) : W p l e rmM_layTerm s m args below meth c0 H locs 0 0 Q (F0 m 0 ls []) := by
  obtain ⟨⟨hx, hb, hml, hown, hts⟩, hr, hlk⟩ := id E
  have hP := hP.to (sgM_layTerm_self σ).symm
  unfold mo_layTerm at hf
  refine lv_iconst hx hb dX16_layTerm_0 ic_0 ?_
  refine lv_istore_n (lv' := [(1, .int 0), (0, .ref (ad 500))]) hx hb dX16_layTerm_1 rfl hl (by decide) rfl (fun ls hl => ?_)
  have LP2 : ∀ (st2 : Int32 × (Nat → Int64)) (ex2 : ((Nat → Int64))), loop (mo_layTerm_L2 (σ.1 523) (σ.2.2.1 611) (σ.2.2.1 624) (σ.2.2.1 625) (σ.2.2.2.1 628) (σ.2.2.2.1 633)) st2 = some ex2 → ∀ (H : Heap) (locs : List Loc), PM D G ad (sgM_layTerm σ (st2.2)) H → va_S A s.heap H locs → ∀ (ls : Array Slot), lv_has ls 8 [(0, .ref (ad 500)), (1, .int (st2.1))] → (∀ (a32 : Nat → Int64), ex2 = a32 → ∀ (H : Heap) (locs : List Loc), PM D G ad (sgM_layTerm σ a32) H → va_S A s.heap H locs → ∀ (ls : Array Slot), lv_has ls 8 [] → W p l e rmM_layTerm s m args below meth c0 H locs 0 0 Q (F0 m 159 ls [])) → W p l e rmM_layTerm s m args below meth c0 H locs 0 0 Q (F0 m 2 ls []) := by
    refine loop_P (fun st2 ex2 o2 hf ih2 hx2 => ?_)
    obtain ⟨y1, a2⟩ := st2
    intro H locs (hP : PM D G ad (sgM_layTerm σ a2) H) hS ls (hl : lv_has ls 8 [(0, .ref (ad 500)), (1, .int y1)]) KE2_0
    dsimp only [mo_layTerm_L2] at hf
    refine lv_iload_n hx hb dX16_layTerm_2 rfl (lv_at hl 1 rfl) ?_
    refine lv_aload_n hx hb dX16_layTerm_3 rfl (lv_at hl 0 rfl) ?_
    refine gM_23 (v := (σ.1 523)) E hK hP sgM_layTerm_rzI523 dX16_layTerm_4 ?_
    refine lv_icmp_ge (tgt := 159) hx hb dX16_layTerm_7 (by decide) (fun c3 => ?_) (fun c3 => ?_)
    · have hf := ifT c3 hf
      exact KE2_0 _ (hx2 _ (Option.some.inj hf).symm).symm H locs hP hS ls (lv_sub hl [] rfl)
    · have hf := ifF c3 hf
      refine lv_aload_n hx hb dX16_layTerm_10 rfl (lv_at hl 0 rfl) ?_
      refine gM_25 E hK hP dX16_layTerm_11 ?_
      refine lv_iload_n hx hb dX16_layTerm_14 rfl (lv_at hl 1 rfl) ?_
      obtain ⟨v4, hv4, hf⟩ := bdP hf
      refine p_iald hx hb hK hP dM_625 sgM_layTerm_raI625 hv4 dX16_layTerm_15 ?_
      refine lv_istore_n (lv' := [(2, .int v4), (0, .ref (ad 500)), (1, .int y1)]) hx hb dX16_layTerm_16 rfl hl (by decide) rfl (fun ls hl => ?_)
      refine lv_aload_n hx hb dX16_layTerm_17 rfl (lv_at hl 1 rfl) ?_
      refine lv_iload_n hx hb dX16_layTerm_18 rfl (lv_at hl 0 rfl) ?_
      obtain ⟨v5, u6, hf⟩ := bdP hf
      refine cM_openIn E hK hP hS hA sgM_layTerm_raI611 sgM_layTerm_raI624 u6 ⟨Nat.le_of_ble_eq_true rfl, Nat.le_of_ble_eq_true rfl⟩ ⟨Nat.zero_le _, Nat.zero_le _⟩ hl.1 (Nat.le_of_ble_eq_true rfl) dX16_layTerm_19 (fun H locs hP hS => ?_)
      have J153 : ∀ (a7 : Nat → Int64), mo_layTerm_J153 y1 a7 = some o2 → ∀ (H : Heap) (locs : List Loc), PM D G ad (sgM_layTerm σ a7) H → va_S A s.heap H locs → ∀ (ls : Array Slot), lv_has ls 8 [(0, .ref (ad 500)), (1, .int y1)] → W p l e rmM_layTerm s m args below meth c0 H locs 0 0 Q (F0 m 153 ls []) := by
        intro a7 hf H locs hP hS ls hl
        unfold mo_layTerm_J153 at hf
        obtain ⟨v8, hv8, hf⟩ := bdP hf
        refine lv_iinc (v := v8) (lv' := [(1, .int v8), (0, .ref (ad 500))]) hx hb dX16_layTerm_153 hl (k := 1) rfl (Option.some.inj hv8) (by decide) rfl (fun ls hl => ?_)
        refine lv_goto (tgt := 2) hx hb dX16_layTerm_156 (by decide) ?_
        exact ih2 _ (Option.some.inj hf).symm H locs hP hS ls (lv_sub hl [1, 0] rfl) KE2_0
      refine lv_if_ne (tgt := 44) hx hb dX16_layTerm_22 (by decide) (fun c9 => ?_) (fun c9 => ?_)
      · have hf := ifF c9 hf
        refine lv_aload_n hx hb dX16_layTerm_44 rfl (lv_at hl 1 rfl) ?_
        refine lv_iload_n hx hb dX16_layTerm_45 rfl (lv_at hl 0 rfl) ?_
        obtain ⟨v10, u11, hf⟩ := bdP hf
        refine cM_unknownIn E hK hP hS hA sgM_layTerm_raI624 u11 ⟨Nat.le_of_ble_eq_true rfl, Nat.le_of_ble_eq_true rfl⟩ ⟨Nat.zero_le _, Nat.zero_le _⟩ hl.1 (Nat.le_of_ble_eq_true rfl) dX16_layTerm_46 (fun H locs hP hS => ?_)
        refine lv_istore_n (lv' := [(3, .int v10), (2, .int v4), (0, .ref (ad 500)), (1, .int y1)]) hx hb dX16_layTerm_49 rfl hl (by decide) rfl (fun ls hl => ?_)
        refine lv_aload_n hx hb dX16_layTerm_50 rfl (lv_at hl 2 rfl) ?_
        refine gM_28 E hK hP dX16_layTerm_51 ?_
        refine lv_iload_n hx hb dX16_layTerm_54 rfl (lv_at hl 1 rfl) ?_
        refine lv_aload_n hx hb dX16_layTerm_55 rfl (lv_at hl 2 rfl) ?_
        refine gM_24 E hK hP dX16_layTerm_56 ?_
        refine lv_iload_n hx hb dX16_layTerm_59 rfl (lv_at hl 0 rfl) ?_
        obtain ⟨v12, hv12, hf⟩ := bdP hf
        refine p_iald hx hb hK hP dM_624 sgM_layTerm_raI624 hv12 dX16_layTerm_60 ?_
        refine lv_iadd hx hb dX16_layTerm_61 ?_
        obtain ⟨v13, hv13, hf⟩ := bdP hf
        refine p_lald hx hb hK hP dM_628 sgM_layTerm_raL628 hv13 dX16_layTerm_62 ?_
        refine lv_lconst hx hb dX16_layTerm_63 lc_0 ?_
        refine W.lcmp hx hb dX16_layTerm_64 ?_
        have J87 : ∀ (k14 : Int64), mo_layTerm_J87 (σ.2.2.1 624) (σ.2.2.2.1 628) y1 a2 v4 v10 k14 = some o2 → ∀ (H : Heap) (locs : List Loc), PM D G ad (sgM_layTerm σ a2) H → va_S A s.heap H locs → ∀ (ls : Array Slot), lv_has ls 8 [(0, .ref (ad 500)), (1, .int y1), (2, .int v4), (3, .int v10)] → W p l e rmM_layTerm s m args below meth c0 H locs 0 0 Q (F0 m 87 ls [.long k14]) := by
          intro k14 hf H locs hP hS ls hl
          unfold mo_layTerm_J87 at hf
          refine lv_lstore (lv' := [(4, .long k14), (0, .ref (ad 500)), (1, .int y1), (2, .int v4), (3, .int v10)]) hx hb dX16_layTerm_87 hl (by decide) rfl (fun ls hl => ?_)
          refine lv_aload_n hx hb dX16_layTerm_89 rfl (lv_at hl 1 rfl) ?_
          refine gM_28 E hK hP dX16_layTerm_90 ?_
          refine lv_iload_n hx hb dX16_layTerm_93 rfl (lv_at hl 3 rfl) ?_
          refine lv_iconst hx hb dX16_layTerm_94 ic_2 ?_
          refine lv_aload_n hx hb dX16_layTerm_95 rfl (lv_at hl 1 rfl) ?_
          refine gM_24 E hK hP dX16_layTerm_96 ?_
          refine lv_iload_n hx hb dX16_layTerm_99 rfl (lv_at hl 4 rfl) ?_
          obtain ⟨v15, hv15, hf⟩ := bdP hf
          refine p_iald hx hb hK hP dM_624 sgM_layTerm_raI624 hv15 dX16_layTerm_100 ?_
          refine lv_imul hx hb dX16_layTerm_101 ?_
          refine lv_iadd hx hb dX16_layTerm_102 ?_
          obtain ⟨v16, hv16, hf⟩ := bdP hf
          refine p_lald hx hb hK hP dM_628 sgM_layTerm_raL628 hv16 dX16_layTerm_103 ?_
          refine lv_lconst hx hb dX16_layTerm_104 lc_0 ?_
          refine W.lcmp hx hb dX16_layTerm_105 ?_
          have J130 : ∀ (k17 : Int64), mo_layTerm_J130 y1 a2 v4 k14 k17 = some o2 → ∀ (H : Heap) (locs : List Loc), PM D G ad (sgM_layTerm σ a2) H → va_S A s.heap H locs → ∀ (ls : Array Slot), lv_has ls 8 [(0, .ref (ad 500)), (1, .int y1), (2, .int v4), (4, .long k14)] → W p l e rmM_layTerm s m args below meth c0 H locs 0 0 Q (F0 m 130 ls [.long k17]) := by
            intro k17 hf H locs hP hS ls hl
            unfold mo_layTerm_J130 at hf
            refine lv_lstore (lv' := [(6, .long k17), (0, .ref (ad 500)), (1, .int y1), (2, .int v4), (4, .long k14)]) hx hb dX16_layTerm_130 hl (by decide) rfl (fun ls hl => ?_)
            refine lv_aload_n hx hb dX16_layTerm_132 rfl (lv_at hl 1 rfl) ?_
            refine gM_34 E hK hP dX16_layTerm_133 ?_
            refine lv_iload_n hx hb dX16_layTerm_136 rfl (lv_at hl 3 rfl) ?_
            refine lv_lload hx hb dX16_layTerm_137 (lv_at hl 4 rfl) ?_
            refine lv_lload hx hb dX16_layTerm_139 (lv_at hl 0 rfl) ?_
            refine W.lcmp hx hb dX16_layTerm_141 ?_
            have J152 : ∀ (k18 : Int64) (k19 : Int32), mo_layTerm_J152 y1 a2 k18 k19 = some o2 → ∀ (H : Heap) (locs : List Loc), PM D G ad (sgM_layTerm σ a2) H → va_S A s.heap H locs → ∀ (ls : Array Slot), lv_has ls 8 [(0, .ref (ad 500)), (1, .int y1)] → W p l e rmM_layTerm s m args below meth c0 H locs 0 0 Q (F0 m 152 ls [.long k18, .int k19, .ref (ad 634)]) := by
              intro k18 k19 hf H locs hP hS ls hl
              unfold mo_layTerm_J152 at hf
              obtain ⟨a20, ha20, hf⟩ := bdP hf
              refine p_last hx hb hK hP hS (hA _ (PA_c dM_634)) dM_634 sgM_layTerm_raL634 ha20 sgM_layTerm_aL634 dX16_layTerm_152 (fun H locs hP hS => ?_)
              exact J153 a20 hf H locs hP hS ls (lv_sub hl [0, 1] rfl)
            refine lv_if_le (tgt := 150) hx hb dX16_layTerm_142 (by decide) (fun c21 => ?_) (fun c21 => ?_)
            · have hf := ifT ((lgc_le _ _).mp c21) hf
              refine lv_lload hx hb dX16_layTerm_150 (lv_at hl 0 rfl) ?_
              exact J152 k17 v4 hf H locs hP hS ls (lv_sub hl [1, 2] rfl)
            · have hf := ifF (mt (lgc_le _ _).mpr c21) hf
              refine lv_lload hx hb dX16_layTerm_145 (lv_at hl 4 rfl) ?_
              refine lv_goto (tgt := 152) hx hb dX16_layTerm_147 (by decide) ?_
              exact J152 k14 v4 hf H locs hP hS ls (lv_sub hl [1, 2] rfl)
          refine lv_if_le (tgt := 127) hx hb dX16_layTerm_106 (by decide) (fun c22 => ?_) (fun c22 => ?_)
          · have hf := ifT ((lgc_le _ _).mp c22) hf
            refine lv_ldc2 hx hb hown (hts _ q2063) dX16_layTerm_127 ?_
            exact J130 (-4000000000000000000) hf H locs hP hS ls (lv_sub hl [1, 2, 3, 0] rfl)
          · have hf := ifF (mt (lgc_le _ _).mpr c22) hf
            refine lv_aload_n hx hb dX16_layTerm_109 rfl (lv_at hl 1 rfl) ?_
            refine gM_34 E hK hP dX16_layTerm_110 ?_
            refine lv_iload_n hx hb dX16_layTerm_113 rfl (lv_at hl 3 rfl) ?_
            refine lv_iconst hx hb dX16_layTerm_114 ic_2 ?_
            refine lv_aload_n hx hb dX16_layTerm_115 rfl (lv_at hl 1 rfl) ?_
            refine gM_24 E hK hP dX16_layTerm_116 ?_
            refine lv_iload_n hx hb dX16_layTerm_119 rfl (lv_at hl 4 rfl) ?_
            obtain ⟨v23, hv23, hf⟩ := bdP hf
            refine p_iald hx hb hK hP dM_624 sgM_layTerm_raI624 hv23 dX16_layTerm_120 ?_
            refine lv_imul hx hb dX16_layTerm_121 ?_
            refine lv_iadd hx hb dX16_layTerm_122 ?_
            obtain ⟨v24, hv24, hf⟩ := bdP hf
            refine p_lald hx hb hK hP dM_634 sgM_layTerm_raL634 hv24 dX16_layTerm_123 ?_
            refine lv_goto (tgt := 130) hx hb dX16_layTerm_124 (by decide) ?_
            exact J130 v24 hf H locs hP hS ls (lv_sub hl [1, 2, 3, 0] rfl)
        refine lv_if_le (tgt := 84) hx hb dX16_layTerm_65 (by decide) (fun c25 => ?_) (fun c25 => ?_)
        · have hf := ifT ((lgc_le _ _).mp c25) hf
          refine lv_ldc2 hx hb hown (hts _ q2063) dX16_layTerm_84 ?_
          exact J87 (-4000000000000000000) hf H locs hP hS ls (lv_sub hl [2, 3, 1, 0] rfl)
        · have hf := ifF (mt (lgc_le _ _).mpr c25) hf
          refine lv_aload_n hx hb dX16_layTerm_68 rfl (lv_at hl 2 rfl) ?_
          refine gM_34 E hK hP dX16_layTerm_69 ?_
          refine lv_iload_n hx hb dX16_layTerm_72 rfl (lv_at hl 1 rfl) ?_
          refine lv_aload_n hx hb dX16_layTerm_73 rfl (lv_at hl 2 rfl) ?_
          refine gM_24 E hK hP dX16_layTerm_74 ?_
          refine lv_iload_n hx hb dX16_layTerm_77 rfl (lv_at hl 0 rfl) ?_
          obtain ⟨v26, hv26, hf⟩ := bdP hf
          refine p_iald hx hb hK hP dM_624 sgM_layTerm_raI624 hv26 dX16_layTerm_78 ?_
          refine lv_iadd hx hb dX16_layTerm_79 ?_
          obtain ⟨v27, hv27, hf⟩ := bdP hf
          refine p_lald hx hb hK hP dM_634 sgM_layTerm_raL634 hv27 dX16_layTerm_80 ?_
          refine lv_goto (tgt := 87) hx hb dX16_layTerm_81 (by decide) ?_
          exact J87 v27 hf H locs hP hS ls (lv_sub hl [2, 3, 1, 0] rfl)
      · have hf := ifT c9 hf
        refine lv_aload_n hx hb dX16_layTerm_25 rfl (lv_at hl 1 rfl) ?_
        refine gM_34 E hK hP dX16_layTerm_26 ?_
        refine lv_iload_n hx hb dX16_layTerm_29 rfl (lv_at hl 0 rfl) ?_
        refine lv_aload_n hx hb dX16_layTerm_30 rfl (lv_at hl 1 rfl) ?_
        refine gM_33 E hK hP dX16_layTerm_31 ?_
        refine lv_aload_n hx hb dX16_layTerm_34 rfl (lv_at hl 1 rfl) ?_
        refine lv_iload_n hx hb dX16_layTerm_35 rfl (lv_at hl 0 rfl) ?_
        obtain ⟨v28, u29, hf⟩ := bdP hf
        refine cM_worldOf E hK hP hS hA sgM_layTerm_raI611 sgM_layTerm_raI624 u29 ⟨Nat.le_of_ble_eq_true rfl, Nat.le_of_ble_eq_true rfl⟩ ⟨Nat.zero_le _, Nat.zero_le _⟩ hl.1 (Nat.le_of_ble_eq_true rfl) dX16_layTerm_36 (fun H locs hP hS => ?_)
        obtain ⟨v30, hv30, hf⟩ := bdP hf
        refine p_lald hx hb hK hP dM_633 sgM_layTerm_raL633 hv30 dX16_layTerm_39 ?_
        obtain ⟨a31, ha31, hf⟩ := bdP hf
        refine p_last hx hb hK hP hS (hA _ (PA_c dM_634)) dM_634 sgM_layTerm_raL634 ha31 sgM_layTerm_aL634 dX16_layTerm_40 (fun H locs hP hS => ?_)
        refine lv_goto (tgt := 153) hx hb dX16_layTerm_41 (by decide) ?_
        exact J153 a31 hf H locs hP hS ls (lv_sub hl [1, 2] rfl)
  obtain ⟨ex2, hlp2, hf⟩ := bdP hf
  refine LP2 (0, (σ.2.2.2.1 634)) ex2 hlp2 H locs hP hS ls (lv_sub hl [1, 0] rfl) ?_
  intro a32 hex2 H locs hP hS ls hl
  subst ex2
  cases hf
  rw [hQ]; exact p_vret hx hb hr hlk hK hP hS dX16_layTerm_159
theorem kM_layTerm (l : Launch) (D : va_G) (G : Nat → ClassId) (ad : Nat → Nat) (σ : Sto) {w_aL634 : Nat → Int64} (hf : mo_layTerm (σ.1 523) (σ.2.2.1 611) (σ.2.2.1 624) (σ.2.2.1 625) (σ.2.2.2.1 628) (σ.2.2.2.1 633) (σ.2.2.2.1 634) = some w_aL634) : CtV l D clsA G dscM ad yX16_layTerm (ws_ yX16_layTerm cX16_layTerm 8 (Option.none : Option Jvm.ClassFile.FieldType)) rmM_layTerm [.ref (ad 500)] σ (sgM_layTerm σ w_aL634) :=
  p_ctV (by decide +kernel) (Nat.le_of_ble_eq_true rfl) (fun p e s m below meth c0 ls A E hP hK hA hS hl => wkM_layTerm E hK hA hf rfl hP hS hl)
theorem cM_layTerm (E : EN p s m args meth c0 RX16 cc nL ret) (hK : KK D clsA G s) (hP : PM D G ad σ H) (hS : va_S A s.heap H locs) (hA : ∀ q, PA dscM ad s.heap.size q → A q) {w_aL634 : Nat → Int64} {z_knowings : Int32} (e_zI523 : σ.1 523 = z_knowings) {a_many : Nat → Int32} (e_aI611 : σ.2.2.1 611 = a_many) {a_three : Nat → Int32} (e_aI624 : σ.2.2.1 624 = a_three) {a_turn : Nat → Int32} (e_aI625 : σ.2.2.1 625 = a_turn) {a_likely : Nat → Int64} (e_aL628 : σ.2.2.2.1 628 = a_likely) {a_ending : Nat → Int64} (e_aL633 : σ.2.2.2.1 633 = a_ending) {a_term : Nat → Int64} (e_aL634 : σ.2.2.2.1 634 = a_term) (hu : mo_layTerm z_knowings a_many a_three a_turn a_likely a_ending a_term = some w_aL634) (hR : rmM_layTerm.frames + 1 ≤ R.frames ∧ 8 + (8 + 11) + rmM_layTerm.locals ≤ R.locals) (hcs : cells ≤ R.cells ∧ slots ≤ R.slots) (hsz : ls.size = nL) (hW : (rest.map fun v => v.category).sum ≤ 8) (hdg : decode cc pc = .ok (.invokevirtual 359, 3)) (kk : ∀ (H1 : Heap) (locs1 : List Loc), PM D G ad (aL σ 634 w_aL634) H1 → va_S A s.heap H1 locs1 → W p l e R s m args below meth c0 H1 locs1 cells slots Q (F0 m (pc + 3) ls rest)) : W p l e R s m args below meth c0 H locs cells slots Q (F0 m pc ls (.ref (ad 500) :: rest)) := by
  subst e_zI523
  subst e_aI611
  subst e_aI624
  subst e_aI625
  subst e_aL628
  subst e_aL633
  subst e_aL634
  exact p_callV (As := []) (rest := rest) E.1 hK hP hS hA (kM_layTerm l D G ad σ hu) (cwV 0 E.1.2.2.2.2 (lw_V q2092 q2094 qs99 q142 q2095) rfl rfl rfl (by decide +kernel) hR) dM_500 rfl rfl rfl hsz rfl hW hdg hcs kk
/-! layLimits(JJZ)V -/
def sgM_layLimits (σ : Sto) (w0 : Nat → Int32) (w1 : Nat → Int32) (w2 : Nat → Int32) (w3 : Nat → Int64) (w4 : Nat → Int64) (w5 : Nat → Int64) (w6 : Nat → Int64) (w7 : Nat → Int64) : Sto := aL (aL (aL (aL (aL (aI (aI (aI σ 629 w0) 631 w1) 636 w2) 630 w3) 633 w4) 634 w5) 635 w6) 637 w7
theorem sgM_layLimits_self (σ : Sto) : sgM_layLimits σ (σ.2.2.1 629) (σ.2.2.1 631) (σ.2.2.1 636) (σ.2.2.2.1 630) (σ.2.2.2.1 633) (σ.2.2.2.1 634) (σ.2.2.2.1 635) (σ.2.2.2.1 637) = σ := by
  unfold sgM_layLimits
  simp only [zI_self, zL_self, aI_self, aL_self]
theorem sgM_layLimits_aI629 {σ : Sto} {w0 : Nat → Int32} {w1 : Nat → Int32} {w2 : Nat → Int32} {w3 : Nat → Int64} {w4 : Nat → Int64} {w5 : Nat → Int64} {w6 : Nat → Int64} {w7 : Nat → Int64} {g : Nat → Int32} : aI (sgM_layLimits σ w0 w1 w2 w3 w4 w5 w6 w7) 629 g = sgM_layLimits σ g w1 w2 w3 w4 w5 w6 w7 := (cm_aI_aL _ _ _ _ _).trans (congrArg (fun z => aL z 637 w7) ((cm_aI_aL _ _ _ _ _).trans (congrArg (fun z => aL z 635 w6) ((cm_aI_aL _ _ _ _ _).trans (congrArg (fun z => aL z 634 w5) ((cm_aI_aL _ _ _ _ _).trans (congrArg (fun z => aL z 633 w4) ((cm_aI_aL _ _ _ _ _).trans (congrArg (fun z => aL z 630 w3) ((aI_comm _ (by decide) _ _).trans (congrArg (fun z => aI z 636 w2) ((aI_comm _ (by decide) _ _).trans (congrArg (fun z => aI z 631 w1) (aI_aI _ 629 _ _))))))))))))))
theorem sgM_layLimits_aI631 {σ : Sto} {w0 : Nat → Int32} {w1 : Nat → Int32} {w2 : Nat → Int32} {w3 : Nat → Int64} {w4 : Nat → Int64} {w5 : Nat → Int64} {w6 : Nat → Int64} {w7 : Nat → Int64} {g : Nat → Int32} : aI (sgM_layLimits σ w0 w1 w2 w3 w4 w5 w6 w7) 631 g = sgM_layLimits σ w0 g w2 w3 w4 w5 w6 w7 := (cm_aI_aL _ _ _ _ _).trans (congrArg (fun z => aL z 637 w7) ((cm_aI_aL _ _ _ _ _).trans (congrArg (fun z => aL z 635 w6) ((cm_aI_aL _ _ _ _ _).trans (congrArg (fun z => aL z 634 w5) ((cm_aI_aL _ _ _ _ _).trans (congrArg (fun z => aL z 633 w4) ((cm_aI_aL _ _ _ _ _).trans (congrArg (fun z => aL z 630 w3) ((aI_comm _ (by decide) _ _).trans (congrArg (fun z => aI z 636 w2) (aI_aI _ 631 _ _))))))))))))
theorem sgM_layLimits_aI636 {σ : Sto} {w0 : Nat → Int32} {w1 : Nat → Int32} {w2 : Nat → Int32} {w3 : Nat → Int64} {w4 : Nat → Int64} {w5 : Nat → Int64} {w6 : Nat → Int64} {w7 : Nat → Int64} {g : Nat → Int32} : aI (sgM_layLimits σ w0 w1 w2 w3 w4 w5 w6 w7) 636 g = sgM_layLimits σ w0 w1 g w3 w4 w5 w6 w7 := (cm_aI_aL _ _ _ _ _).trans (congrArg (fun z => aL z 637 w7) ((cm_aI_aL _ _ _ _ _).trans (congrArg (fun z => aL z 635 w6) ((cm_aI_aL _ _ _ _ _).trans (congrArg (fun z => aL z 634 w5) ((cm_aI_aL _ _ _ _ _).trans (congrArg (fun z => aL z 633 w4) ((cm_aI_aL _ _ _ _ _).trans (congrArg (fun z => aL z 630 w3) (aI_aI _ 636 _ _))))))))))
theorem sgM_layLimits_aL630 {σ : Sto} {w0 : Nat → Int32} {w1 : Nat → Int32} {w2 : Nat → Int32} {w3 : Nat → Int64} {w4 : Nat → Int64} {w5 : Nat → Int64} {w6 : Nat → Int64} {w7 : Nat → Int64} {g : Nat → Int64} : aL (sgM_layLimits σ w0 w1 w2 w3 w4 w5 w6 w7) 630 g = sgM_layLimits σ w0 w1 w2 g w4 w5 w6 w7 := (aL_comm _ (by decide) _ _).trans (congrArg (fun z => aL z 637 w7) ((aL_comm _ (by decide) _ _).trans (congrArg (fun z => aL z 635 w6) ((aL_comm _ (by decide) _ _).trans (congrArg (fun z => aL z 634 w5) ((aL_comm _ (by decide) _ _).trans (congrArg (fun z => aL z 633 w4) (aL_aL _ 630 _ _))))))))
theorem sgM_layLimits_aL633 {σ : Sto} {w0 : Nat → Int32} {w1 : Nat → Int32} {w2 : Nat → Int32} {w3 : Nat → Int64} {w4 : Nat → Int64} {w5 : Nat → Int64} {w6 : Nat → Int64} {w7 : Nat → Int64} {g : Nat → Int64} : aL (sgM_layLimits σ w0 w1 w2 w3 w4 w5 w6 w7) 633 g = sgM_layLimits σ w0 w1 w2 w3 g w5 w6 w7 := (aL_comm _ (by decide) _ _).trans (congrArg (fun z => aL z 637 w7) ((aL_comm _ (by decide) _ _).trans (congrArg (fun z => aL z 635 w6) ((aL_comm _ (by decide) _ _).trans (congrArg (fun z => aL z 634 w5) (aL_aL _ 633 _ _))))))
theorem sgM_layLimits_aL634 {σ : Sto} {w0 : Nat → Int32} {w1 : Nat → Int32} {w2 : Nat → Int32} {w3 : Nat → Int64} {w4 : Nat → Int64} {w5 : Nat → Int64} {w6 : Nat → Int64} {w7 : Nat → Int64} {g : Nat → Int64} : aL (sgM_layLimits σ w0 w1 w2 w3 w4 w5 w6 w7) 634 g = sgM_layLimits σ w0 w1 w2 w3 w4 g w6 w7 := (aL_comm _ (by decide) _ _).trans (congrArg (fun z => aL z 637 w7) ((aL_comm _ (by decide) _ _).trans (congrArg (fun z => aL z 635 w6) (aL_aL _ 634 _ _))))
theorem sgM_layLimits_aL635 {σ : Sto} {w0 : Nat → Int32} {w1 : Nat → Int32} {w2 : Nat → Int32} {w3 : Nat → Int64} {w4 : Nat → Int64} {w5 : Nat → Int64} {w6 : Nat → Int64} {w7 : Nat → Int64} {g : Nat → Int64} : aL (sgM_layLimits σ w0 w1 w2 w3 w4 w5 w6 w7) 635 g = sgM_layLimits σ w0 w1 w2 w3 w4 w5 g w7 := (aL_comm _ (by decide) _ _).trans (congrArg (fun z => aL z 637 w7) (aL_aL _ 635 _ _))
theorem sgM_layLimits_aL637 {σ : Sto} {w0 : Nat → Int32} {w1 : Nat → Int32} {w2 : Nat → Int32} {w3 : Nat → Int64} {w4 : Nat → Int64} {w5 : Nat → Int64} {w6 : Nat → Int64} {w7 : Nat → Int64} {g : Nat → Int64} : aL (sgM_layLimits σ w0 w1 w2 w3 w4 w5 w6 w7) 637 g = sgM_layLimits σ w0 w1 w2 w3 w4 w5 w6 g := aL_aL _ 637 _ _
theorem sgM_layLimits_rzI522 {σ : Sto} {w0 : Nat → Int32} {w1 : Nat → Int32} {w2 : Nat → Int32} {w3 : Nat → Int64} {w4 : Nat → Int64} {w5 : Nat → Int64} {w6 : Nat → Int64} {w7 : Nat → Int64} : (sgM_layLimits σ w0 w1 w2 w3 w4 w5 w6 w7).1 522 = σ.1 522 := rfl
theorem sgM_layLimits_rzI523 {σ : Sto} {w0 : Nat → Int32} {w1 : Nat → Int32} {w2 : Nat → Int32} {w3 : Nat → Int64} {w4 : Nat → Int64} {w5 : Nat → Int64} {w6 : Nat → Int64} {w7 : Nat → Int64} : (sgM_layLimits σ w0 w1 w2 w3 w4 w5 w6 w7).1 523 = σ.1 523 := rfl
theorem sgM_layLimits_raI611 {σ : Sto} {w0 : Nat → Int32} {w1 : Nat → Int32} {w2 : Nat → Int32} {w3 : Nat → Int64} {w4 : Nat → Int64} {w5 : Nat → Int64} {w6 : Nat → Int64} {w7 : Nat → Int64} : (sgM_layLimits σ w0 w1 w2 w3 w4 w5 w6 w7).2.2.1 611 = σ.2.2.1 611 := rfl
theorem sgM_layLimits_raI615 {σ : Sto} {w0 : Nat → Int32} {w1 : Nat → Int32} {w2 : Nat → Int32} {w3 : Nat → Int64} {w4 : Nat → Int64} {w5 : Nat → Int64} {w6 : Nat → Int64} {w7 : Nat → Int64} : (sgM_layLimits σ w0 w1 w2 w3 w4 w5 w6 w7).2.2.1 615 = σ.2.2.1 615 := rfl
theorem sgM_layLimits_raI618 {σ : Sto} {w0 : Nat → Int32} {w1 : Nat → Int32} {w2 : Nat → Int32} {w3 : Nat → Int64} {w4 : Nat → Int64} {w5 : Nat → Int64} {w6 : Nat → Int64} {w7 : Nat → Int64} : (sgM_layLimits σ w0 w1 w2 w3 w4 w5 w6 w7).2.2.1 618 = σ.2.2.1 618 := rfl
theorem sgM_layLimits_raI620 {σ : Sto} {w0 : Nat → Int32} {w1 : Nat → Int32} {w2 : Nat → Int32} {w3 : Nat → Int64} {w4 : Nat → Int64} {w5 : Nat → Int64} {w6 : Nat → Int64} {w7 : Nat → Int64} : (sgM_layLimits σ w0 w1 w2 w3 w4 w5 w6 w7).2.2.1 620 = σ.2.2.1 620 := rfl
theorem sgM_layLimits_raI621 {σ : Sto} {w0 : Nat → Int32} {w1 : Nat → Int32} {w2 : Nat → Int32} {w3 : Nat → Int64} {w4 : Nat → Int64} {w5 : Nat → Int64} {w6 : Nat → Int64} {w7 : Nat → Int64} : (sgM_layLimits σ w0 w1 w2 w3 w4 w5 w6 w7).2.2.1 621 = σ.2.2.1 621 := rfl
theorem sgM_layLimits_raI624 {σ : Sto} {w0 : Nat → Int32} {w1 : Nat → Int32} {w2 : Nat → Int32} {w3 : Nat → Int64} {w4 : Nat → Int64} {w5 : Nat → Int64} {w6 : Nat → Int64} {w7 : Nat → Int64} : (sgM_layLimits σ w0 w1 w2 w3 w4 w5 w6 w7).2.2.1 624 = σ.2.2.1 624 := rfl
theorem sgM_layLimits_raI625 {σ : Sto} {w0 : Nat → Int32} {w1 : Nat → Int32} {w2 : Nat → Int32} {w3 : Nat → Int64} {w4 : Nat → Int64} {w5 : Nat → Int64} {w6 : Nat → Int64} {w7 : Nat → Int64} : (sgM_layLimits σ w0 w1 w2 w3 w4 w5 w6 w7).2.2.1 625 = σ.2.2.1 625 := rfl
theorem sgM_layLimits_raI629 {σ : Sto} {w0 : Nat → Int32} {w1 : Nat → Int32} {w2 : Nat → Int32} {w3 : Nat → Int64} {w4 : Nat → Int64} {w5 : Nat → Int64} {w6 : Nat → Int64} {w7 : Nat → Int64} : (sgM_layLimits σ w0 w1 w2 w3 w4 w5 w6 w7).2.2.1 629 = w0 := rfl
theorem sgM_layLimits_raI631 {σ : Sto} {w0 : Nat → Int32} {w1 : Nat → Int32} {w2 : Nat → Int32} {w3 : Nat → Int64} {w4 : Nat → Int64} {w5 : Nat → Int64} {w6 : Nat → Int64} {w7 : Nat → Int64} : (sgM_layLimits σ w0 w1 w2 w3 w4 w5 w6 w7).2.2.1 631 = w1 := rfl
theorem sgM_layLimits_raI636 {σ : Sto} {w0 : Nat → Int32} {w1 : Nat → Int32} {w2 : Nat → Int32} {w3 : Nat → Int64} {w4 : Nat → Int64} {w5 : Nat → Int64} {w6 : Nat → Int64} {w7 : Nat → Int64} : (sgM_layLimits σ w0 w1 w2 w3 w4 w5 w6 w7).2.2.1 636 = w2 := rfl
theorem sgM_layLimits_raL626 {σ : Sto} {w0 : Nat → Int32} {w1 : Nat → Int32} {w2 : Nat → Int32} {w3 : Nat → Int64} {w4 : Nat → Int64} {w5 : Nat → Int64} {w6 : Nat → Int64} {w7 : Nat → Int64} : (sgM_layLimits σ w0 w1 w2 w3 w4 w5 w6 w7).2.2.2.1 626 = σ.2.2.2.1 626 := rfl
theorem sgM_layLimits_raL628 {σ : Sto} {w0 : Nat → Int32} {w1 : Nat → Int32} {w2 : Nat → Int32} {w3 : Nat → Int64} {w4 : Nat → Int64} {w5 : Nat → Int64} {w6 : Nat → Int64} {w7 : Nat → Int64} : (sgM_layLimits σ w0 w1 w2 w3 w4 w5 w6 w7).2.2.2.1 628 = σ.2.2.2.1 628 := rfl
theorem sgM_layLimits_raL630 {σ : Sto} {w0 : Nat → Int32} {w1 : Nat → Int32} {w2 : Nat → Int32} {w3 : Nat → Int64} {w4 : Nat → Int64} {w5 : Nat → Int64} {w6 : Nat → Int64} {w7 : Nat → Int64} : (sgM_layLimits σ w0 w1 w2 w3 w4 w5 w6 w7).2.2.2.1 630 = w3 := rfl
theorem sgM_layLimits_raL633 {σ : Sto} {w0 : Nat → Int32} {w1 : Nat → Int32} {w2 : Nat → Int32} {w3 : Nat → Int64} {w4 : Nat → Int64} {w5 : Nat → Int64} {w6 : Nat → Int64} {w7 : Nat → Int64} : (sgM_layLimits σ w0 w1 w2 w3 w4 w5 w6 w7).2.2.2.1 633 = w4 := rfl
theorem sgM_layLimits_raL634 {σ : Sto} {w0 : Nat → Int32} {w1 : Nat → Int32} {w2 : Nat → Int32} {w3 : Nat → Int64} {w4 : Nat → Int64} {w5 : Nat → Int64} {w6 : Nat → Int64} {w7 : Nat → Int64} : (sgM_layLimits σ w0 w1 w2 w3 w4 w5 w6 w7).2.2.2.1 634 = w5 := rfl
theorem sgM_layLimits_raL635 {σ : Sto} {w0 : Nat → Int32} {w1 : Nat → Int32} {w2 : Nat → Int32} {w3 : Nat → Int64} {w4 : Nat → Int64} {w5 : Nat → Int64} {w6 : Nat → Int64} {w7 : Nat → Int64} : (sgM_layLimits σ w0 w1 w2 w3 w4 w5 w6 w7).2.2.2.1 635 = w6 := rfl
theorem sgM_layLimits_raL637 {σ : Sto} {w0 : Nat → Int32} {w1 : Nat → Int32} {w2 : Nat → Int32} {w3 : Nat → Int64} {w4 : Nat → Int64} {w5 : Nat → Int64} {w6 : Nat → Int64} {w7 : Nat → Int64} : (sgM_layLimits σ w0 w1 w2 w3 w4 w5 w6 w7).2.2.2.1 637 = w7 := rfl
abbrev rmM_layLimits : Room := { frames := 6, cells := 0, slots := 0, locals := 156 }
set_option maxHeartbeats 4000000 in
theorem wkM_layLimits {x1 : Int64} {x3 : Int64} {x5 : Int32} {w_aI629 : Nat → Int32} {w_aI631 : Nat → Int32} {w_aI636 : Nat → Int32} {w_aL630 : Nat → Int64} {w_aL633 : Nat → Int64} {w_aL634 : Nat → Int64} {w_aL635 : Nat → Int64} {w_aL637 : Nat → Int64} (E : EN p s m args meth c0 RX16 cX16_layLimits 10 (Option.none : Option Jvm.ClassFile.FieldType)) (hK : KK D clsA G s) (hA : ∀ q, PA dscM ad s.heap.size q → A q) (hf : mo_layLimits (σ.1 522) (σ.1 523) (σ.2.2.1 611) (σ.2.2.1 615) (σ.2.2.1 618) (σ.2.2.1 620) (σ.2.2.1 621) (σ.2.2.1 624) (σ.2.2.1 625) (σ.2.2.1 629) (σ.2.2.1 631) (σ.2.2.1 636) (σ.2.2.2.1 626) (σ.2.2.2.1 628) (σ.2.2.2.1 630) (σ.2.2.2.1 633) (σ.2.2.2.1 634) (σ.2.2.2.1 635) (σ.2.2.2.1 637) x1 x3 x5 = some (w_aI629, w_aI631, w_aI636, w_aL630, w_aL633, w_aL634, w_aL635, w_aL637)) (hQ : Q = MQ below (va_Qv (fun (_ : Unit) => True) (fun _ t => PM D G ad (sgM_layLimits σ w_aI629 w_aI631 w_aI636 w_aL630 w_aL633 w_aL634 w_aL635 w_aL637) t.heap ∧ KK D clsA G t) A) args s 0 0 A) (hP : PM D G ad σ H) (hS : va_S A s.heap H locs) (hl : lv_has ls 10 [(0, .ref (ad 500)), (1, .long x1), (3, .long x3), (5, .int x5)]) : W p l e rmM_layLimits s m args below meth c0 H locs 0 0 Q (F0 m 0 ls []) := by
  obtain ⟨⟨hx, hb, hml, hown, hts⟩, hr, hlk⟩ := id E
  have hP := hP.to (sgM_layLimits_self σ).symm
  unfold mo_layLimits at hf
  refine lv_iconst hx hb dX16_layLimits_0 ic_0 ?_
  refine lv_istore (lv' := [(6, .int 0), (0, .ref (ad 500)), (1, .long x1), (3, .long x3), (5, .int x5)]) hx hb dX16_layLimits_1 hl (by decide) rfl (fun ls hl => ?_)
  have LP3 : ∀ (st3 : Int32 × (Nat → Int32) × (Nat → Int64)) (ex3 : ((Nat → Int32) × (Nat → Int64))), loop (mo_layLimits_L3 (σ.1 522) (σ.2.2.1 611) (σ.2.2.1 615) (σ.2.2.1 624) (σ.2.2.2.1 626) x1 x3 x5) st3 = some ex3 → ∀ (H : Heap) (locs : List Loc), PM D G ad (sgM_layLimits σ (st3.2.1) (σ.2.2.1 631) (σ.2.2.1 636) (σ.2.2.2.1 630) (st3.2.2) (σ.2.2.2.1 634) (σ.2.2.2.1 635) (σ.2.2.2.1 637)) H → va_S A s.heap H locs → ∀ (ls : Array Slot), lv_has ls 10 [(0, .ref (ad 500)), (1, .long x1), (3, .long x3), (5, .int x5), (6, .int (st3.1))] → (∀ (a20 : Nat → Int32) (a21 : Nat → Int64), ex3 = (a20, a21) → ∀ (H : Heap) (locs : List Loc), PM D G ad (sgM_layLimits σ a20 (σ.2.2.1 631) (σ.2.2.1 636) (σ.2.2.2.1 630) a21 (σ.2.2.2.1 634) (σ.2.2.2.1 635) (σ.2.2.2.1 637)) H → va_S A s.heap H locs → ∀ (ls : Array Slot), lv_has ls 10 [(0, .ref (ad 500))] → W p l e rmM_layLimits s m args below meth c0 H locs 0 0 Q (F0 m 80 ls [])) → W p l e rmM_layLimits s m args below meth c0 H locs 0 0 Q (F0 m 3 ls []) := by
    refine loop_P (fun st3 ex3 o3 hf ih3 hx3 => ?_)
    obtain ⟨y1, a2, a3⟩ := st3
    intro H locs (hP : PM D G ad (sgM_layLimits σ a2 (σ.2.2.1 631) (σ.2.2.1 636) (σ.2.2.2.1 630) a3 (σ.2.2.2.1 634) (σ.2.2.2.1 635) (σ.2.2.2.1 637)) H) hS ls (hl : lv_has ls 10 [(0, .ref (ad 500)), (1, .long x1), (3, .long x3), (5, .int x5), (6, .int y1)]) KE3_0
    dsimp only [mo_layLimits_L3] at hf
    refine lv_iload hx hb dX16_layLimits_3 (lv_at hl 4 rfl) ?_
    refine lv_aload_n hx hb dX16_layLimits_5 rfl (lv_at hl 0 rfl) ?_
    refine gM_22 (v := (σ.1 522)) E hK hP sgM_layLimits_rzI522 dX16_layLimits_6 ?_
    refine lv_icmp_ge (tgt := 80) hx hb dX16_layLimits_9 (by decide) (fun c4 => ?_) (fun c4 => ?_)
    · have hf := ifT c4 hf
      exact KE3_0 _ _ (hx3 _ (Option.some.inj hf).symm).symm H locs hP hS ls (lv_sub hl [0] rfl)
    · have hf := ifF c4 hf
      refine lv_aload_n hx hb dX16_layLimits_12 rfl (lv_at hl 0 rfl) ?_
      refine gM_26 E hK hP dX16_layLimits_13 ?_
      refine lv_iload hx hb dX16_layLimits_16 (lv_at hl 4 rfl) ?_
      obtain ⟨v5, hv5, hf⟩ := bdP hf
      refine p_lald hx hb hK hP dM_626 sgM_layLimits_raL626 hv5 dX16_layLimits_18 ?_
      refine lv_lconst hx hb dX16_layLimits_19 lc_0 ?_
      refine W.lcmp hx hb dX16_layLimits_20 ?_
      have J34 : ∀ (k6 : Int32) (a7 : Nat → Int32), mo_layLimits_J34 x1 y1 a3 x3 x5 k6 a7 = some o3 → ∀ (H : Heap) (locs : List Loc), PM D G ad (sgM_layLimits σ a7 (σ.2.2.1 631) (σ.2.2.1 636) (σ.2.2.2.1 630) a3 (σ.2.2.2.1 634) (σ.2.2.2.1 635) (σ.2.2.2.1 637)) H → va_S A s.heap H locs → ∀ (ls : Array Slot), lv_has ls 10 [(0, .ref (ad 500)), (1, .long x1), (3, .long x3), (5, .int x5), (6, .int y1)] → W p l e rmM_layLimits s m args below meth c0 H locs 0 0 Q (F0 m 34 ls [.int k6]) := by
        intro k6 a7 hf H locs hP hS ls hl
        unfold mo_layLimits_J34 at hf
        refine lv_istore (lv' := [(7, .int k6), (0, .ref (ad 500)), (1, .long x1), (3, .long x3), (5, .int x5), (6, .int y1)]) hx hb dX16_layLimits_34 hl (by decide) rfl (fun ls hl => ?_)
        refine lv_lload_n hx hb dX16_layLimits_36 rfl (lv_at hl 2 rfl) ?_
        refine lv_iload hx hb dX16_layLimits_37 (lv_at hl 0 rfl) ?_
        refine lv_i2l hx hb dX16_layLimits_39 rfl ?_
        refine lv_lmul hx hb dX16_layLimits_40 ?_
        obtain ⟨v8, hv8, hf⟩ := bdP hf
        refine nm_l (Option.some.inj hv8) ?_
        refine lv_lstore (lv' := [(8, .long v8), (7, .int k6), (0, .ref (ad 500)), (1, .long x1), (3, .long x3), (5, .int x5), (6, .int y1)]) hx hb dX16_layLimits_41 hl (by decide) rfl (fun ls hl => ?_)
        refine lv_aload_n hx hb dX16_layLimits_43 rfl (lv_at hl 2 rfl) ?_
        refine gM_33 E hK hP dX16_layLimits_44 ?_
        refine lv_iload hx hb dX16_layLimits_47 (lv_at hl 6 rfl) ?_
        refine lv_iload hx hb dX16_layLimits_49 (lv_at hl 5 rfl) ?_
        have J73 : ∀ (k9 : Int64) (k10 : Int32), mo_layLimits_J73 y1 a3 a7 k9 k10 = some o3 → ∀ (H : Heap) (locs : List Loc), PM D G ad (sgM_layLimits σ a7 (σ.2.2.1 631) (σ.2.2.1 636) (σ.2.2.2.1 630) a3 (σ.2.2.2.1 634) (σ.2.2.2.1 635) (σ.2.2.2.1 637)) H → va_S A s.heap H locs → ∀ (ls : Array Slot), lv_has ls 10 [(0, .ref (ad 500)), (1, .long x1), (3, .long x3), (5, .int x5), (6, .int y1)] → W p l e rmM_layLimits s m args below meth c0 H locs 0 0 Q (F0 m 73 ls [.long k9, .int k10, .ref (ad 633)]) := by
          intro k9 k10 hf H locs hP hS ls hl
          unfold mo_layLimits_J73 at hf
          obtain ⟨a11, ha11, hf⟩ := bdP hf
          refine p_last hx hb hK hP hS (hA _ (PA_c dM_633)) dM_633 sgM_layLimits_raL633 ha11 sgM_layLimits_aL633 dX16_layLimits_73 (fun H locs hP hS => ?_)
          obtain ⟨v12, hv12, hf⟩ := bdP hf
          refine lv_iinc (v := v12) (lv' := [(6, .int v12), (0, .ref (ad 500)), (1, .long x1), (3, .long x3), (5, .int x5)]) hx hb dX16_layLimits_74 hl (k := 4) rfl (Option.some.inj hv12) (by decide) rfl (fun ls hl => ?_)
          refine lv_goto (tgt := 3) hx hb dX16_layLimits_77 (by decide) ?_
          exact ih3 _ (Option.some.inj hf).symm H locs hP hS ls (lv_sub hl [1, 2, 3, 4, 0] rfl) KE3_0
        refine lv_if_eq (tgt := 68) hx hb dX16_layLimits_51 (by decide) (fun c13 => ?_) (fun c13 => ?_)
        · have hf := ifT c13 hf
          refine lv_lload hx hb dX16_layLimits_68 (lv_at hl 0 rfl) ?_
          refine lv_lload_n hx hb dX16_layLimits_70 rfl (lv_at hl 4 rfl) ?_
          obtain ⟨v14, hv14, hf⟩ := bdP hf
          refine lv_ldiv hx hb dX16_layLimits_71 (dvL_some hv14).1 ?_
          refine nm_l (dvL_some hv14).2 ?_
          refine lv_lneg hx hb dX16_layLimits_72 ?_
          exact J73 (-v14) y1 hf H locs hP hS ls (lv_sub hl [2, 3, 4, 5, 6] rfl)
        · have hf := ifF c13 hf
          refine lv_lload hx hb dX16_layLimits_54 (lv_at hl 0 rfl) ?_
          refine lv_lload_n hx hb dX16_layLimits_56 rfl (lv_at hl 4 rfl) ?_
          refine lv_ladd hx hb dX16_layLimits_57 ?_
          refine lv_lconst hx hb dX16_layLimits_58 lc_1 ?_
          refine lv_lsub hx hb dX16_layLimits_59 ?_
          refine lv_lload_n hx hb dX16_layLimits_60 rfl (lv_at hl 4 rfl) ?_
          obtain ⟨v15, hv15, hf⟩ := bdP hf
          refine lv_ldiv hx hb dX16_layLimits_61 (dvL_some hv15).1 ?_
          refine nm_l (dvL_some hv15).2 ?_
          refine lv_lconst hx hb dX16_layLimits_62 lc_1 ?_
          refine lv_lsub hx hb dX16_layLimits_63 ?_
          refine lv_lneg hx hb dX16_layLimits_64 ?_
          refine lv_goto (tgt := 73) hx hb dX16_layLimits_65 (by decide) ?_
          exact J73 (-(v15 - 1)) y1 hf H locs hP hS ls (lv_sub hl [2, 3, 4, 5, 6] rfl)
      refine lv_if_ne (tgt := 28) hx hb dX16_layLimits_21 (by decide) (fun c16 => ?_) (fun c16 => ?_)
      · have hf := ifF (mt (lgc_eq _ _).mpr c16) hf
        refine lv_aload_n hx hb dX16_layLimits_28 rfl (lv_at hl 0 rfl) ?_
        refine lv_iload hx hb dX16_layLimits_29 (lv_at hl 4 rfl) ?_
        obtain ⟨⟨v17, a18⟩, u19, hf⟩ := bdP hf
        dsimp only at hf
        refine cM_knowingOf E hK hP hS hA sgM_layLimits_raI611 sgM_layLimits_raI615 sgM_layLimits_raI624 sgM_layLimits_raI629 u19 ⟨Nat.le_of_ble_eq_true rfl, Nat.le_of_ble_eq_true rfl⟩ ⟨Nat.zero_le _, Nat.zero_le _⟩ hl.1 (Nat.le_of_ble_eq_true rfl) dX16_layLimits_31 (fun H locs hP hS => ?_)
        rw [sgM_layLimits_aI629] at hP
        exact J34 v17 a18 hf H locs hP hS ls (lv_sub hl [0, 1, 2, 3, 4] rfl)
      · have hf := ifT ((lgc_eq _ _).mp c16) hf
        refine lv_iconst hx hb dX16_layLimits_24 ic_0 ?_
        refine lv_goto (tgt := 34) hx hb dX16_layLimits_25 (by decide) ?_
        exact J34 0 a2 hf H locs hP hS ls (lv_sub hl [0, 1, 2, 3, 4] rfl)
  obtain ⟨ex3, hlp3, hf⟩ := bdP hf
  refine LP3 (0, (σ.2.2.1 629), (σ.2.2.2.1 633)) ex3 hlp3 H locs hP hS ls (lv_sub hl [1, 2, 3, 4, 0] rfl) ?_
  intro a20 a21 hex3 H locs hP hS ls hl
  subst ex3
  dsimp only at hf
  refine lv_aload_n hx hb dX16_layLimits_80 rfl (lv_at hl 0 rfl) ?_
  obtain ⟨a22, u23, hf⟩ := bdP hf
  refine cM_layTerm E hK hP hS hA sgM_layLimits_rzI523 sgM_layLimits_raI611 sgM_layLimits_raI624 sgM_layLimits_raI625 sgM_layLimits_raL628 sgM_layLimits_raL633 sgM_layLimits_raL634 u23 ⟨Nat.le_of_ble_eq_true rfl, Nat.le_of_ble_eq_true rfl⟩ ⟨Nat.zero_le _, Nat.zero_le _⟩ hl.1 (Nat.le_of_ble_eq_true rfl) dX16_layLimits_81 (fun H locs hP hS => ?_)
  rw [sgM_layLimits_aL634] at hP
  refine lv_aload_n hx hb dX16_layLimits_84 rfl (lv_at hl 0 rfl) ?_
  refine lv_iconst hx hb dX16_layLimits_85 ic_2 ?_
  refine lv_iconst hx hb dX16_layLimits_86 ic_0 ?_
  obtain ⟨⟨a24, a25, a26, a27, a28⟩, u29, hf⟩ := bdP hf
  dsimp only at hf
  refine cM_layValues E hK hP hS hA sgM_layLimits_rzI523 sgM_layLimits_raI611 sgM_layLimits_raI615 sgM_layLimits_raI618 sgM_layLimits_raI620 sgM_layLimits_raI621 sgM_layLimits_raI624 sgM_layLimits_raI625 sgM_layLimits_raI631 sgM_layLimits_raI636 sgM_layLimits_raL628 sgM_layLimits_raL630 sgM_layLimits_raL634 sgM_layLimits_raL635 sgM_layLimits_raL637 u29 ⟨Nat.le_of_ble_eq_true rfl, Nat.le_of_ble_eq_true rfl⟩ ⟨Nat.zero_le _, Nat.zero_le _⟩ hl.1 (Nat.le_of_ble_eq_true rfl) dX16_layLimits_87 (fun H locs hP hS => ?_)
  rw [sgM_layLimits_aI631, sgM_layLimits_aI636, sgM_layLimits_aL630, sgM_layLimits_aL635, sgM_layLimits_aL637] at hP
  cases hf
  rw [hQ]; exact p_vret hx hb hr hlk hK hP hS dX16_layLimits_90
theorem kM_layLimits (l : Launch) (D : va_G) (G : Nat → ClassId) (ad : Nat → Nat) (σ : Sto) {x1 : Int64} {x3 : Int64} {x5 : Int32} {w_aI629 : Nat → Int32} {w_aI631 : Nat → Int32} {w_aI636 : Nat → Int32} {w_aL630 : Nat → Int64} {w_aL633 : Nat → Int64} {w_aL634 : Nat → Int64} {w_aL635 : Nat → Int64} {w_aL637 : Nat → Int64} (hf : mo_layLimits (σ.1 522) (σ.1 523) (σ.2.2.1 611) (σ.2.2.1 615) (σ.2.2.1 618) (σ.2.2.1 620) (σ.2.2.1 621) (σ.2.2.1 624) (σ.2.2.1 625) (σ.2.2.1 629) (σ.2.2.1 631) (σ.2.2.1 636) (σ.2.2.2.1 626) (σ.2.2.2.1 628) (σ.2.2.2.1 630) (σ.2.2.2.1 633) (σ.2.2.2.1 634) (σ.2.2.2.1 635) (σ.2.2.2.1 637) x1 x3 x5 = some (w_aI629, w_aI631, w_aI636, w_aL630, w_aL633, w_aL634, w_aL635, w_aL637)) : CtV l D clsA G dscM ad yX16_layLimits (ws_ yX16_layLimits cX16_layLimits 10 (Option.none : Option Jvm.ClassFile.FieldType)) rmM_layLimits [.ref (ad 500), .long x1, .long x3, .int x5] σ (sgM_layLimits σ w_aI629 w_aI631 w_aI636 w_aL630 w_aL633 w_aL634 w_aL635 w_aL637) :=
  p_ctV (by decide +kernel) (Nat.le_of_ble_eq_true rfl) (fun p e s m below meth c0 ls A E hP hK hA hS hl => wkM_layLimits E hK hA hf rfl hP hS hl)
theorem cM_layLimits (E : EN p s m args meth c0 RX16 cc nL ret) (hK : KK D clsA G s) (hP : PM D G ad σ H) (hS : va_S A s.heap H locs) (hA : ∀ q, PA dscM ad s.heap.size q → A q) {x1 : Int64} {x3 : Int64} {x5 : Int32} {w_aI629 : Nat → Int32} {w_aI631 : Nat → Int32} {w_aI636 : Nat → Int32} {w_aL630 : Nat → Int64} {w_aL633 : Nat → Int64} {w_aL634 : Nat → Int64} {w_aL635 : Nat → Int64} {w_aL637 : Nat → Int64} {z_worlds : Int32} (e_zI522 : σ.1 522 = z_worlds) {z_knowings : Int32} (e_zI523 : σ.1 523 = z_knowings) {a_many : Nat → Int32} (e_aI611 : σ.2.2.1 611 = a_many) {a_road : Nat → Int32} (e_aI615 : σ.2.2.1 615 = a_road) {a_word : Nat → Int32} (e_aI618 : σ.2.2.1 618 = a_word) {a_seen : Nat → Int32} (e_aI620 : σ.2.2.1 620 = a_seen) {a_between : Nat → Int32} (e_aI621 : σ.2.2.1 621 = a_between) {a_three : Nat → Int32} (e_aI624 : σ.2.2.1 624 = a_three) {a_turn : Nat → Int32} (e_aI625 : σ.2.2.1 625 = a_turn) {a_far : Nat → Int32} (e_aI629 : σ.2.2.1 629 = a_far) {a_act : Nat → Int32} (e_aI631 : σ.2.2.1 631 = a_act) {a_isNews : Nat → Int32} (e_aI636 : σ.2.2.1 636 = a_isNews) {a_weight : Nat → Int64} (e_aL626 : σ.2.2.2.1 626 = a_weight) {a_likely : Nat → Int64} (e_aL628 : σ.2.2.2.1 628 = a_likely) {a_value : Nat → Int64} (e_aL630 : σ.2.2.2.1 630 = a_value) {a_ending : Nat → Int64} (e_aL633 : σ.2.2.2.1 633 = a_ending) {a_term : Nat → Int64} (e_aL634 : σ.2.2.2.1 634 = a_term) {a_coming : Nat → Int64} (e_aL635 : σ.2.2.2.1 635 = a_coming) {a_bought : Nat → Int64} (e_aL637 : σ.2.2.2.1 637 = a_bought) (hu : mo_layLimits z_worlds z_knowings a_many a_road a_word a_seen a_between a_three a_turn a_far a_act a_isNews a_weight a_likely a_value a_ending a_term a_coming a_bought x1 x3 x5 = some (w_aI629, w_aI631, w_aI636, w_aL630, w_aL633, w_aL634, w_aL635, w_aL637)) (hR : rmM_layLimits.frames + 1 ≤ R.frames ∧ 8 + (10 + 11) + rmM_layLimits.locals ≤ R.locals) (hcs : cells ≤ R.cells ∧ slots ≤ R.slots) (hsz : ls.size = nL) (hW : (rest.map fun v => v.category).sum ≤ 8) (hdg : decode cc pc = .ok (.invokevirtual 385, 3)) (kk : ∀ (H1 : Heap) (locs1 : List Loc), PM D G ad (aL (aL (aL (aL (aL (aI (aI (aI σ 629 w_aI629) 631 w_aI631) 636 w_aI636) 630 w_aL630) 633 w_aL633) 634 w_aL634) 635 w_aL635) 637 w_aL637) H1 → va_S A s.heap H1 locs1 → W p l e R s m args below meth c0 H1 locs1 cells slots Q (F0 m (pc + 3) ls rest)) : W p l e R s m args below meth c0 H locs cells slots Q (F0 m pc ls (.int x5 :: .long x3 :: .long x1 :: .ref (ad 500) :: rest)) := by
  subst e_zI522
  subst e_zI523
  subst e_aI611
  subst e_aI615
  subst e_aI618
  subst e_aI620
  subst e_aI621
  subst e_aI624
  subst e_aI625
  subst e_aI629
  subst e_aI631
  subst e_aI636
  subst e_aL626
  subst e_aL628
  subst e_aL630
  subst e_aL633
  subst e_aL634
  subst e_aL635
  subst e_aL637
  exact p_callV (As := [.long x1, .long x3, .int x5]) (rest := rest) E.1 hK hP hS hA (kM_layLimits l D G ad σ hu) (cwV 3 E.1.2.2.2.2 (lw_V q2137 q2139 qs110 q142 q2140) rfl rfl rfl (by decide +kernel) hR) dM_500 rfl rfl rfl hsz rfl hW hdg hcs kk
/-! laySure()V -/
def sgM_laySure (σ : Sto) (w0 : Nat → Int32) (w1 : Nat → Int32) (w2 : Nat → Int32) (w3 : Nat → Int64) (w4 : Nat → Int64) (w5 : Nat → Int64) (w6 : Nat → Int64) (w7 : Nat → Int64) : Sto := aL (aL (aL (aL (aL (aI (aI (aI σ 631 w0) 632 w1) 636 w2) 630 w3) 633 w4) 634 w5) 635 w6) 637 w7
theorem sgM_laySure_self (σ : Sto) : sgM_laySure σ (σ.2.2.1 631) (σ.2.2.1 632) (σ.2.2.1 636) (σ.2.2.2.1 630) (σ.2.2.2.1 633) (σ.2.2.2.1 634) (σ.2.2.2.1 635) (σ.2.2.2.1 637) = σ := by
  unfold sgM_laySure
  simp only [zI_self, zL_self, aI_self, aL_self]
theorem sgM_laySure_aI631 {σ : Sto} {w0 : Nat → Int32} {w1 : Nat → Int32} {w2 : Nat → Int32} {w3 : Nat → Int64} {w4 : Nat → Int64} {w5 : Nat → Int64} {w6 : Nat → Int64} {w7 : Nat → Int64} {g : Nat → Int32} : aI (sgM_laySure σ w0 w1 w2 w3 w4 w5 w6 w7) 631 g = sgM_laySure σ g w1 w2 w3 w4 w5 w6 w7 := (cm_aI_aL _ _ _ _ _).trans (congrArg (fun z => aL z 637 w7) ((cm_aI_aL _ _ _ _ _).trans (congrArg (fun z => aL z 635 w6) ((cm_aI_aL _ _ _ _ _).trans (congrArg (fun z => aL z 634 w5) ((cm_aI_aL _ _ _ _ _).trans (congrArg (fun z => aL z 633 w4) ((cm_aI_aL _ _ _ _ _).trans (congrArg (fun z => aL z 630 w3) ((aI_comm _ (by decide) _ _).trans (congrArg (fun z => aI z 636 w2) ((aI_comm _ (by decide) _ _).trans (congrArg (fun z => aI z 632 w1) (aI_aI _ 631 _ _))))))))))))))
theorem sgM_laySure_aI632 {σ : Sto} {w0 : Nat → Int32} {w1 : Nat → Int32} {w2 : Nat → Int32} {w3 : Nat → Int64} {w4 : Nat → Int64} {w5 : Nat → Int64} {w6 : Nat → Int64} {w7 : Nat → Int64} {g : Nat → Int32} : aI (sgM_laySure σ w0 w1 w2 w3 w4 w5 w6 w7) 632 g = sgM_laySure σ w0 g w2 w3 w4 w5 w6 w7 := (cm_aI_aL _ _ _ _ _).trans (congrArg (fun z => aL z 637 w7) ((cm_aI_aL _ _ _ _ _).trans (congrArg (fun z => aL z 635 w6) ((cm_aI_aL _ _ _ _ _).trans (congrArg (fun z => aL z 634 w5) ((cm_aI_aL _ _ _ _ _).trans (congrArg (fun z => aL z 633 w4) ((cm_aI_aL _ _ _ _ _).trans (congrArg (fun z => aL z 630 w3) ((aI_comm _ (by decide) _ _).trans (congrArg (fun z => aI z 636 w2) (aI_aI _ 632 _ _))))))))))))
theorem sgM_laySure_aI636 {σ : Sto} {w0 : Nat → Int32} {w1 : Nat → Int32} {w2 : Nat → Int32} {w3 : Nat → Int64} {w4 : Nat → Int64} {w5 : Nat → Int64} {w6 : Nat → Int64} {w7 : Nat → Int64} {g : Nat → Int32} : aI (sgM_laySure σ w0 w1 w2 w3 w4 w5 w6 w7) 636 g = sgM_laySure σ w0 w1 g w3 w4 w5 w6 w7 := (cm_aI_aL _ _ _ _ _).trans (congrArg (fun z => aL z 637 w7) ((cm_aI_aL _ _ _ _ _).trans (congrArg (fun z => aL z 635 w6) ((cm_aI_aL _ _ _ _ _).trans (congrArg (fun z => aL z 634 w5) ((cm_aI_aL _ _ _ _ _).trans (congrArg (fun z => aL z 633 w4) ((cm_aI_aL _ _ _ _ _).trans (congrArg (fun z => aL z 630 w3) (aI_aI _ 636 _ _))))))))))
theorem sgM_laySure_aL630 {σ : Sto} {w0 : Nat → Int32} {w1 : Nat → Int32} {w2 : Nat → Int32} {w3 : Nat → Int64} {w4 : Nat → Int64} {w5 : Nat → Int64} {w6 : Nat → Int64} {w7 : Nat → Int64} {g : Nat → Int64} : aL (sgM_laySure σ w0 w1 w2 w3 w4 w5 w6 w7) 630 g = sgM_laySure σ w0 w1 w2 g w4 w5 w6 w7 := (aL_comm _ (by decide) _ _).trans (congrArg (fun z => aL z 637 w7) ((aL_comm _ (by decide) _ _).trans (congrArg (fun z => aL z 635 w6) ((aL_comm _ (by decide) _ _).trans (congrArg (fun z => aL z 634 w5) ((aL_comm _ (by decide) _ _).trans (congrArg (fun z => aL z 633 w4) (aL_aL _ 630 _ _))))))))
theorem sgM_laySure_aL633 {σ : Sto} {w0 : Nat → Int32} {w1 : Nat → Int32} {w2 : Nat → Int32} {w3 : Nat → Int64} {w4 : Nat → Int64} {w5 : Nat → Int64} {w6 : Nat → Int64} {w7 : Nat → Int64} {g : Nat → Int64} : aL (sgM_laySure σ w0 w1 w2 w3 w4 w5 w6 w7) 633 g = sgM_laySure σ w0 w1 w2 w3 g w5 w6 w7 := (aL_comm _ (by decide) _ _).trans (congrArg (fun z => aL z 637 w7) ((aL_comm _ (by decide) _ _).trans (congrArg (fun z => aL z 635 w6) ((aL_comm _ (by decide) _ _).trans (congrArg (fun z => aL z 634 w5) (aL_aL _ 633 _ _))))))
theorem sgM_laySure_aL634 {σ : Sto} {w0 : Nat → Int32} {w1 : Nat → Int32} {w2 : Nat → Int32} {w3 : Nat → Int64} {w4 : Nat → Int64} {w5 : Nat → Int64} {w6 : Nat → Int64} {w7 : Nat → Int64} {g : Nat → Int64} : aL (sgM_laySure σ w0 w1 w2 w3 w4 w5 w6 w7) 634 g = sgM_laySure σ w0 w1 w2 w3 w4 g w6 w7 := (aL_comm _ (by decide) _ _).trans (congrArg (fun z => aL z 637 w7) ((aL_comm _ (by decide) _ _).trans (congrArg (fun z => aL z 635 w6) (aL_aL _ 634 _ _))))
theorem sgM_laySure_aL635 {σ : Sto} {w0 : Nat → Int32} {w1 : Nat → Int32} {w2 : Nat → Int32} {w3 : Nat → Int64} {w4 : Nat → Int64} {w5 : Nat → Int64} {w6 : Nat → Int64} {w7 : Nat → Int64} {g : Nat → Int64} : aL (sgM_laySure σ w0 w1 w2 w3 w4 w5 w6 w7) 635 g = sgM_laySure σ w0 w1 w2 w3 w4 w5 g w7 := (aL_comm _ (by decide) _ _).trans (congrArg (fun z => aL z 637 w7) (aL_aL _ 635 _ _))
theorem sgM_laySure_aL637 {σ : Sto} {w0 : Nat → Int32} {w1 : Nat → Int32} {w2 : Nat → Int32} {w3 : Nat → Int64} {w4 : Nat → Int64} {w5 : Nat → Int64} {w6 : Nat → Int64} {w7 : Nat → Int64} {g : Nat → Int64} : aL (sgM_laySure σ w0 w1 w2 w3 w4 w5 w6 w7) 637 g = sgM_laySure σ w0 w1 w2 w3 w4 w5 w6 g := aL_aL _ 637 _ _
theorem sgM_laySure_rzI522 {σ : Sto} {w0 : Nat → Int32} {w1 : Nat → Int32} {w2 : Nat → Int32} {w3 : Nat → Int64} {w4 : Nat → Int64} {w5 : Nat → Int64} {w6 : Nat → Int64} {w7 : Nat → Int64} : (sgM_laySure σ w0 w1 w2 w3 w4 w5 w6 w7).1 522 = σ.1 522 := rfl
theorem sgM_laySure_rzI523 {σ : Sto} {w0 : Nat → Int32} {w1 : Nat → Int32} {w2 : Nat → Int32} {w3 : Nat → Int64} {w4 : Nat → Int64} {w5 : Nat → Int64} {w6 : Nat → Int64} {w7 : Nat → Int64} : (sgM_laySure σ w0 w1 w2 w3 w4 w5 w6 w7).1 523 = σ.1 523 := rfl
theorem sgM_laySure_raI611 {σ : Sto} {w0 : Nat → Int32} {w1 : Nat → Int32} {w2 : Nat → Int32} {w3 : Nat → Int64} {w4 : Nat → Int64} {w5 : Nat → Int64} {w6 : Nat → Int64} {w7 : Nat → Int64} : (sgM_laySure σ w0 w1 w2 w3 w4 w5 w6 w7).2.2.1 611 = σ.2.2.1 611 := rfl
theorem sgM_laySure_raI615 {σ : Sto} {w0 : Nat → Int32} {w1 : Nat → Int32} {w2 : Nat → Int32} {w3 : Nat → Int64} {w4 : Nat → Int64} {w5 : Nat → Int64} {w6 : Nat → Int64} {w7 : Nat → Int64} : (sgM_laySure σ w0 w1 w2 w3 w4 w5 w6 w7).2.2.1 615 = σ.2.2.1 615 := rfl
theorem sgM_laySure_raI618 {σ : Sto} {w0 : Nat → Int32} {w1 : Nat → Int32} {w2 : Nat → Int32} {w3 : Nat → Int64} {w4 : Nat → Int64} {w5 : Nat → Int64} {w6 : Nat → Int64} {w7 : Nat → Int64} : (sgM_laySure σ w0 w1 w2 w3 w4 w5 w6 w7).2.2.1 618 = σ.2.2.1 618 := rfl
theorem sgM_laySure_raI620 {σ : Sto} {w0 : Nat → Int32} {w1 : Nat → Int32} {w2 : Nat → Int32} {w3 : Nat → Int64} {w4 : Nat → Int64} {w5 : Nat → Int64} {w6 : Nat → Int64} {w7 : Nat → Int64} : (sgM_laySure σ w0 w1 w2 w3 w4 w5 w6 w7).2.2.1 620 = σ.2.2.1 620 := rfl
theorem sgM_laySure_raI621 {σ : Sto} {w0 : Nat → Int32} {w1 : Nat → Int32} {w2 : Nat → Int32} {w3 : Nat → Int64} {w4 : Nat → Int64} {w5 : Nat → Int64} {w6 : Nat → Int64} {w7 : Nat → Int64} : (sgM_laySure σ w0 w1 w2 w3 w4 w5 w6 w7).2.2.1 621 = σ.2.2.1 621 := rfl
theorem sgM_laySure_raI624 {σ : Sto} {w0 : Nat → Int32} {w1 : Nat → Int32} {w2 : Nat → Int32} {w3 : Nat → Int64} {w4 : Nat → Int64} {w5 : Nat → Int64} {w6 : Nat → Int64} {w7 : Nat → Int64} : (sgM_laySure σ w0 w1 w2 w3 w4 w5 w6 w7).2.2.1 624 = σ.2.2.1 624 := rfl
theorem sgM_laySure_raI625 {σ : Sto} {w0 : Nat → Int32} {w1 : Nat → Int32} {w2 : Nat → Int32} {w3 : Nat → Int64} {w4 : Nat → Int64} {w5 : Nat → Int64} {w6 : Nat → Int64} {w7 : Nat → Int64} : (sgM_laySure σ w0 w1 w2 w3 w4 w5 w6 w7).2.2.1 625 = σ.2.2.1 625 := rfl
theorem sgM_laySure_raI631 {σ : Sto} {w0 : Nat → Int32} {w1 : Nat → Int32} {w2 : Nat → Int32} {w3 : Nat → Int64} {w4 : Nat → Int64} {w5 : Nat → Int64} {w6 : Nat → Int64} {w7 : Nat → Int64} : (sgM_laySure σ w0 w1 w2 w3 w4 w5 w6 w7).2.2.1 631 = w0 := rfl
theorem sgM_laySure_raI632 {σ : Sto} {w0 : Nat → Int32} {w1 : Nat → Int32} {w2 : Nat → Int32} {w3 : Nat → Int64} {w4 : Nat → Int64} {w5 : Nat → Int64} {w6 : Nat → Int64} {w7 : Nat → Int64} : (sgM_laySure σ w0 w1 w2 w3 w4 w5 w6 w7).2.2.1 632 = w1 := rfl
theorem sgM_laySure_raI636 {σ : Sto} {w0 : Nat → Int32} {w1 : Nat → Int32} {w2 : Nat → Int32} {w3 : Nat → Int64} {w4 : Nat → Int64} {w5 : Nat → Int64} {w6 : Nat → Int64} {w7 : Nat → Int64} : (sgM_laySure σ w0 w1 w2 w3 w4 w5 w6 w7).2.2.1 636 = w2 := rfl
theorem sgM_laySure_raL628 {σ : Sto} {w0 : Nat → Int32} {w1 : Nat → Int32} {w2 : Nat → Int32} {w3 : Nat → Int64} {w4 : Nat → Int64} {w5 : Nat → Int64} {w6 : Nat → Int64} {w7 : Nat → Int64} : (sgM_laySure σ w0 w1 w2 w3 w4 w5 w6 w7).2.2.2.1 628 = σ.2.2.2.1 628 := rfl
theorem sgM_laySure_raL630 {σ : Sto} {w0 : Nat → Int32} {w1 : Nat → Int32} {w2 : Nat → Int32} {w3 : Nat → Int64} {w4 : Nat → Int64} {w5 : Nat → Int64} {w6 : Nat → Int64} {w7 : Nat → Int64} : (sgM_laySure σ w0 w1 w2 w3 w4 w5 w6 w7).2.2.2.1 630 = w3 := rfl
theorem sgM_laySure_raL633 {σ : Sto} {w0 : Nat → Int32} {w1 : Nat → Int32} {w2 : Nat → Int32} {w3 : Nat → Int64} {w4 : Nat → Int64} {w5 : Nat → Int64} {w6 : Nat → Int64} {w7 : Nat → Int64} : (sgM_laySure σ w0 w1 w2 w3 w4 w5 w6 w7).2.2.2.1 633 = w4 := rfl
theorem sgM_laySure_raL634 {σ : Sto} {w0 : Nat → Int32} {w1 : Nat → Int32} {w2 : Nat → Int32} {w3 : Nat → Int64} {w4 : Nat → Int64} {w5 : Nat → Int64} {w6 : Nat → Int64} {w7 : Nat → Int64} : (sgM_laySure σ w0 w1 w2 w3 w4 w5 w6 w7).2.2.2.1 634 = w5 := rfl
theorem sgM_laySure_raL635 {σ : Sto} {w0 : Nat → Int32} {w1 : Nat → Int32} {w2 : Nat → Int32} {w3 : Nat → Int64} {w4 : Nat → Int64} {w5 : Nat → Int64} {w6 : Nat → Int64} {w7 : Nat → Int64} : (sgM_laySure σ w0 w1 w2 w3 w4 w5 w6 w7).2.2.2.1 635 = w6 := rfl
theorem sgM_laySure_raL637 {σ : Sto} {w0 : Nat → Int32} {w1 : Nat → Int32} {w2 : Nat → Int32} {w3 : Nat → Int64} {w4 : Nat → Int64} {w5 : Nat → Int64} {w6 : Nat → Int64} {w7 : Nat → Int64} : (sgM_laySure σ w0 w1 w2 w3 w4 w5 w6 w7).2.2.2.1 637 = w7 := rfl
abbrev rmM_laySure : Room := { frames := 6, cells := 0, slots := 0, locals := 156 }
set_option maxHeartbeats 4000000 in
theorem wkM_laySure  {w_aI631 : Nat → Int32} {w_aI632 : Nat → Int32} {w_aI636 : Nat → Int32} {w_aL630 : Nat → Int64} {w_aL633 : Nat → Int64} {w_aL634 : Nat → Int64} {w_aL635 : Nat → Int64} {w_aL637 : Nat → Int64} (E : EN p s m args meth c0 RX16 cX16_laySure 2 (Option.none : Option Jvm.ClassFile.FieldType)) (hK : KK D clsA G s) (hA : ∀ q, PA dscM ad s.heap.size q → A q) (hf : mo_laySure (σ.1 522) (σ.1 523) (σ.2.2.1 611) (σ.2.2.1 615) (σ.2.2.1 618) (σ.2.2.1 620) (σ.2.2.1 621) (σ.2.2.1 624) (σ.2.2.1 625) (σ.2.2.1 631) (σ.2.2.1 632) (σ.2.2.1 636) (σ.2.2.2.1 628) (σ.2.2.2.1 630) (σ.2.2.2.1 633) (σ.2.2.2.1 634) (σ.2.2.2.1 635) (σ.2.2.2.1 637) = some (w_aI631, w_aI632, w_aI636, w_aL630, w_aL633, w_aL634, w_aL635, w_aL637)) (hQ : Q = MQ below (va_Qv (fun (_ : Unit) => True) (fun _ t => PM D G ad (sgM_laySure σ w_aI631 w_aI632 w_aI636 w_aL630 w_aL633 w_aL634 w_aL635 w_aL637) t.heap ∧ KK D clsA G t) A) args s 0 0 A) (hP : PM D G ad σ H) (hS : va_S A s.heap H locs) (hl : lv_has ls 2 [(0, .ref (ad 500))]) : W p l e rmM_laySure s m args below meth c0 H locs 0 0 Q (F0 m 0 ls []) := by
  obtain ⟨⟨hx, hb, hml, hown, hts⟩, hr, hlk⟩ := id E
  have hP := hP.to (sgM_laySure_self σ).symm
  unfold mo_laySure at hf
  refine lv_aload_n hx hb dX16_laySure_0 rfl (lv_at hl 0 rfl) ?_
  refine gM_32 E hK hP dX16_laySure_1 ?_
  refine lv_iconst hx hb dX16_laySure_4 ic_1 ?_
  obtain ⟨v1, hv1, hf⟩ := bdP hf
  refine p_zald hx hb hK hP dM_632 sgM_laySure_raI632 hv1 dX16_laySure_5 ?_
  refine lv_if_eq (tgt := 10) hx hb dX16_laySure_6 (by decide) (fun c2 => ?_) (fun c2 => ?_)
  · have hf := ifT c2 hf
    refine lv_aload_n hx hb dX16_laySure_10 rfl (lv_at hl 0 rfl) ?_
    refine gM_32 E hK hP dX16_laySure_11 ?_
    refine lv_iconst hx hb dX16_laySure_14 ic_1 ?_
    refine lv_iconst hx hb dX16_laySure_15 ic_1 ?_
    obtain ⟨a3, ha3, hf⟩ := bdP hf
    refine p_zast hx hb hK hP hS (hA _ (PA_c dM_632)) dM_632 sgM_laySure_raI632 ha3 sgM_laySure_aI632 dX16_laySure_16 (fun H locs hP hS => ?_)
    refine lv_iconst hx hb dX16_laySure_17 ic_0 ?_
    refine lv_istore_n (lv' := [(1, .int 0), (0, .ref (ad 500))]) hx hb dX16_laySure_18 rfl hl (by decide) rfl (fun ls hl => ?_)
    have LP19 : ∀ (st19 : Int32 × (Nat → Int64)) (ex19 : ((Nat → Int64))), loop (mo_laySure_L19 (σ.1 522)) st19 = some ex19 → ∀ (H : Heap) (locs : List Loc), PM D G ad (sgM_laySure σ (σ.2.2.1 631) a3 (σ.2.2.1 636) (σ.2.2.2.1 630) (st19.2) (σ.2.2.2.1 634) (σ.2.2.2.1 635) (σ.2.2.2.1 637)) H → va_S A s.heap H locs → ∀ (ls : Array Slot), lv_has ls 2 [(0, .ref (ad 500)), (1, .int (st19.1))] → (∀ (a9 : Nat → Int64), ex19 = a9 → ∀ (H : Heap) (locs : List Loc), PM D G ad (sgM_laySure σ (σ.2.2.1 631) a3 (σ.2.2.1 636) (σ.2.2.2.1 630) a9 (σ.2.2.2.1 634) (σ.2.2.2.1 635) (σ.2.2.2.1 637)) H → va_S A s.heap H locs → ∀ (ls : Array Slot), lv_has ls 2 [(0, .ref (ad 500))] → W p l e rmM_laySure s m args below meth c0 H locs 0 0 Q (F0 m 40 ls [])) → W p l e rmM_laySure s m args below meth c0 H locs 0 0 Q (F0 m 19 ls []) := by
      refine loop_P (fun st19 ex19 o19 hf ih19 hx19 => ?_)
      obtain ⟨y4, a5⟩ := st19
      intro H locs (hP : PM D G ad (sgM_laySure σ (σ.2.2.1 631) a3 (σ.2.2.1 636) (σ.2.2.2.1 630) a5 (σ.2.2.2.1 634) (σ.2.2.2.1 635) (σ.2.2.2.1 637)) H) hS ls (hl : lv_has ls 2 [(0, .ref (ad 500)), (1, .int y4)]) KE19_0
      dsimp only [mo_laySure_L19] at hf
      refine lv_iload_n hx hb dX16_laySure_19 rfl (lv_at hl 1 rfl) ?_
      refine lv_aload_n hx hb dX16_laySure_20 rfl (lv_at hl 0 rfl) ?_
      refine gM_22 (v := (σ.1 522)) E hK hP sgM_laySure_rzI522 dX16_laySure_21 ?_
      refine lv_icmp_ge (tgt := 40) hx hb dX16_laySure_24 (by decide) (fun c6 => ?_) (fun c6 => ?_)
      · have hf := ifT c6 hf
        exact KE19_0 _ (hx19 _ (Option.some.inj hf).symm).symm H locs hP hS ls (lv_sub hl [0] rfl)
      · have hf := ifF c6 hf
        refine lv_aload_n hx hb dX16_laySure_27 rfl (lv_at hl 0 rfl) ?_
        refine gM_33 E hK hP dX16_laySure_28 ?_
        refine lv_iload_n hx hb dX16_laySure_31 rfl (lv_at hl 1 rfl) ?_
        refine lv_lconst hx hb dX16_laySure_32 lc_0 ?_
        obtain ⟨a7, ha7, hf⟩ := bdP hf
        refine p_last hx hb hK hP hS (hA _ (PA_c dM_633)) dM_633 sgM_laySure_raL633 ha7 sgM_laySure_aL633 dX16_laySure_33 (fun H locs hP hS => ?_)
        obtain ⟨v8, hv8, hf⟩ := bdP hf
        refine lv_iinc (v := v8) (lv' := [(1, .int v8), (0, .ref (ad 500))]) hx hb dX16_laySure_34 hl (k := 1) rfl (Option.some.inj hv8) (by decide) rfl (fun ls hl => ?_)
        refine lv_goto (tgt := 19) hx hb dX16_laySure_37 (by decide) ?_
        exact ih19 _ (Option.some.inj hf).symm H locs hP hS ls (lv_sub hl [1, 0] rfl) KE19_0
    obtain ⟨ex19, hlp19, hf⟩ := bdP hf
    refine LP19 (0, (σ.2.2.2.1 633)) ex19 hlp19 H locs hP hS ls (lv_sub hl [1, 0] rfl) ?_
    intro a9 hex19 H locs hP hS ls hl
    subst ex19
    refine lv_aload_n hx hb dX16_laySure_40 rfl (lv_at hl 0 rfl) ?_
    obtain ⟨a10, u11, hf⟩ := bdP hf
    refine cM_layTerm E hK hP hS hA sgM_laySure_rzI523 sgM_laySure_raI611 sgM_laySure_raI624 sgM_laySure_raI625 sgM_laySure_raL628 sgM_laySure_raL633 sgM_laySure_raL634 u11 ⟨Nat.le_of_ble_eq_true rfl, Nat.le_of_ble_eq_true rfl⟩ ⟨Nat.zero_le _, Nat.zero_le _⟩ hl.1 (Nat.le_of_ble_eq_true rfl) dX16_laySure_41 (fun H locs hP hS => ?_)
    rw [sgM_laySure_aL634] at hP
    refine lv_aload_n hx hb dX16_laySure_44 rfl (lv_at hl 0 rfl) ?_
    refine lv_iconst hx hb dX16_laySure_45 ic_1 ?_
    refine lv_iconst hx hb dX16_laySure_46 ic_0 ?_
    obtain ⟨⟨a12, a13, a14, a15, a16⟩, u17, hf⟩ := bdP hf
    dsimp only at hf
    refine cM_layValues E hK hP hS hA sgM_laySure_rzI523 sgM_laySure_raI611 sgM_laySure_raI615 sgM_laySure_raI618 sgM_laySure_raI620 sgM_laySure_raI621 sgM_laySure_raI624 sgM_laySure_raI625 sgM_laySure_raI631 sgM_laySure_raI636 sgM_laySure_raL628 sgM_laySure_raL630 sgM_laySure_raL634 sgM_laySure_raL635 sgM_laySure_raL637 u17 ⟨Nat.le_of_ble_eq_true rfl, Nat.le_of_ble_eq_true rfl⟩ ⟨Nat.zero_le _, Nat.zero_le _⟩ hl.1 (Nat.le_of_ble_eq_true rfl) dX16_laySure_47 (fun H locs hP hS => ?_)
    rw [sgM_laySure_aI631, sgM_laySure_aI636, sgM_laySure_aL630, sgM_laySure_aL635, sgM_laySure_aL637] at hP
    cases hf
    rw [hQ]; exact p_vret hx hb hr hlk hK hP hS dX16_laySure_50
  · have hf := ifF c2 hf
    cases hf
    rw [hQ]; exact p_vret hx hb hr hlk hK hP hS dX16_laySure_9
theorem kM_laySure (l : Launch) (D : va_G) (G : Nat → ClassId) (ad : Nat → Nat) (σ : Sto) {w_aI631 : Nat → Int32} {w_aI632 : Nat → Int32} {w_aI636 : Nat → Int32} {w_aL630 : Nat → Int64} {w_aL633 : Nat → Int64} {w_aL634 : Nat → Int64} {w_aL635 : Nat → Int64} {w_aL637 : Nat → Int64} (hf : mo_laySure (σ.1 522) (σ.1 523) (σ.2.2.1 611) (σ.2.2.1 615) (σ.2.2.1 618) (σ.2.2.1 620) (σ.2.2.1 621) (σ.2.2.1 624) (σ.2.2.1 625) (σ.2.2.1 631) (σ.2.2.1 632) (σ.2.2.1 636) (σ.2.2.2.1 628) (σ.2.2.2.1 630) (σ.2.2.2.1 633) (σ.2.2.2.1 634) (σ.2.2.2.1 635) (σ.2.2.2.1 637) = some (w_aI631, w_aI632, w_aI636, w_aL630, w_aL633, w_aL634, w_aL635, w_aL637)) : CtV l D clsA G dscM ad yX16_laySure (ws_ yX16_laySure cX16_laySure 2 (Option.none : Option Jvm.ClassFile.FieldType)) rmM_laySure [.ref (ad 500)] σ (sgM_laySure σ w_aI631 w_aI632 w_aI636 w_aL630 w_aL633 w_aL634 w_aL635 w_aL637) :=
  p_ctV (by decide +kernel) (Nat.le_of_ble_eq_true rfl) (fun p e s m below meth c0 ls A E hP hK hA hS hl => wkM_laySure E hK hA hf rfl hP hS hl)
theorem cM_laySure (E : EN p s m args meth c0 RX16 cc nL ret) (hK : KK D clsA G s) (hP : PM D G ad σ H) (hS : va_S A s.heap H locs) (hA : ∀ q, PA dscM ad s.heap.size q → A q) {w_aI631 : Nat → Int32} {w_aI632 : Nat → Int32} {w_aI636 : Nat → Int32} {w_aL630 : Nat → Int64} {w_aL633 : Nat → Int64} {w_aL634 : Nat → Int64} {w_aL635 : Nat → Int64} {w_aL637 : Nat → Int64} {z_worlds : Int32} (e_zI522 : σ.1 522 = z_worlds) {z_knowings : Int32} (e_zI523 : σ.1 523 = z_knowings) {a_many : Nat → Int32} (e_aI611 : σ.2.2.1 611 = a_many) {a_road : Nat → Int32} (e_aI615 : σ.2.2.1 615 = a_road) {a_word : Nat → Int32} (e_aI618 : σ.2.2.1 618 = a_word) {a_seen : Nat → Int32} (e_aI620 : σ.2.2.1 620 = a_seen) {a_between : Nat → Int32} (e_aI621 : σ.2.2.1 621 = a_between) {a_three : Nat → Int32} (e_aI624 : σ.2.2.1 624 = a_three) {a_turn : Nat → Int32} (e_aI625 : σ.2.2.1 625 = a_turn) {a_act : Nat → Int32} (e_aI631 : σ.2.2.1 631 = a_act) {a_isLaid : Nat → Int32} (e_aI632 : σ.2.2.1 632 = a_isLaid) {a_isNews : Nat → Int32} (e_aI636 : σ.2.2.1 636 = a_isNews) {a_likely : Nat → Int64} (e_aL628 : σ.2.2.2.1 628 = a_likely) {a_value : Nat → Int64} (e_aL630 : σ.2.2.2.1 630 = a_value) {a_ending : Nat → Int64} (e_aL633 : σ.2.2.2.1 633 = a_ending) {a_term : Nat → Int64} (e_aL634 : σ.2.2.2.1 634 = a_term) {a_coming : Nat → Int64} (e_aL635 : σ.2.2.2.1 635 = a_coming) {a_bought : Nat → Int64} (e_aL637 : σ.2.2.2.1 637 = a_bought) (hu : mo_laySure z_worlds z_knowings a_many a_road a_word a_seen a_between a_three a_turn a_act a_isLaid a_isNews a_likely a_value a_ending a_term a_coming a_bought = some (w_aI631, w_aI632, w_aI636, w_aL630, w_aL633, w_aL634, w_aL635, w_aL637)) (hR : rmM_laySure.frames + 1 ≤ R.frames ∧ 8 + (2 + 11) + rmM_laySure.locals ≤ R.locals) (hcs : cells ≤ R.cells ∧ slots ≤ R.slots) (hsz : ls.size = nL) (hW : (rest.map fun v => v.category).sum ≤ 8) (hdg : decode cc pc = .ok (.invokevirtual 365, 3)) (kk : ∀ (H1 : Heap) (locs1 : List Loc), PM D G ad (aL (aL (aL (aL (aL (aI (aI (aI σ 631 w_aI631) 632 w_aI632) 636 w_aI636) 630 w_aL630) 633 w_aL633) 634 w_aL634) 635 w_aL635) 637 w_aL637) H1 → va_S A s.heap H1 locs1 → W p l e R s m args below meth c0 H1 locs1 cells slots Q (F0 m (pc + 3) ls rest)) : W p l e R s m args below meth c0 H locs cells slots Q (F0 m pc ls (.ref (ad 500) :: rest)) := by
  subst e_zI522
  subst e_zI523
  subst e_aI611
  subst e_aI615
  subst e_aI618
  subst e_aI620
  subst e_aI621
  subst e_aI624
  subst e_aI625
  subst e_aI631
  subst e_aI632
  subst e_aI636
  subst e_aL628
  subst e_aL630
  subst e_aL633
  subst e_aL634
  subst e_aL635
  subst e_aL637
  exact p_callV (As := []) (rest := rest) E.1 hK hP hS hA (kM_laySure l D G ad σ hu) (cwV 0 E.1.2.2.2.2 (lw_V q2088 q2090 qs98 q142 q2091) rfl rfl rfl (by decide +kernel) hR) dM_500 rfl rfl rfl hsz rfl hW hdg hcs kk
/-! byHand(II)I -/
abbrev rmM_byHand : Room := { frames := 2, cells := 0, slots := 0, locals := 45 }
set_option maxHeartbeats 4000000 in
theorem wkM_byHand {x1 : Int32} {x2 : Int32} {r_ : Int32} (E : EN p s m args meth c0 RX16 cX16_byHand 6 (Option.some Jvm.ClassFile.FieldType.int)) (hK : KK D clsA G s) (hA : ∀ q, PA dscM ad s.heap.size q → A q) (hf : mo_byHand (σ.1 543) (σ.2.2.1 615) (σ.2.2.1 621) (σ.2.2.1 624) (σ.2.2.1 644) x1 x2 = some r_) (hQ : Q = MQ below (va_Qi (fun x (_ : Unit) => x = r_) (fun _ t => PM D G ad σ t.heap ∧ KK D clsA G t) A) args s 0 0 A) (hP : PM D G ad σ H) (hS : va_S A s.heap H locs) (hl : lv_has ls 6 [(0, .ref (ad 500)), (1, .int x1), (2, .int x2)]) : W p l e rmM_byHand s m args below meth c0 H locs 0 0 Q (F0 m 0 ls []) := by
  obtain ⟨⟨hx, hb, hml, hown, hts⟩, hr, hlk⟩ := id E
  unfold mo_byHand at hf
  refine lv_iconst hx hb dX16_byHand_0 ic_0 ?_
  refine lv_istore_n (lv' := [(3, .int 0), (0, .ref (ad 500)), (1, .int x1), (2, .int x2)]) hx hb dX16_byHand_1 rfl hl (by decide) rfl (fun ls hl => ?_)
  have LP2 : ∀ (st2 : Int32) (ex2 : (Int32) ⊕ (Unit)), loop (mo_byHand_L2 (σ.1 543) (σ.2.2.1 615) (σ.2.2.1 621) (σ.2.2.1 624) (σ.2.2.1 644) x1 x2) st2 = some ex2 → ∀ (H : Heap) (locs : List Loc), PM D G ad σ H → va_S A s.heap H locs → ∀ (ls : Array Slot), lv_has ls 6 [(0, .ref (ad 500)), (1, .int x1), (2, .int x2), (3, .int st2)] → (∀ (y18 : Int32), ex2 = (.inl y18) → ∀ (H : Heap) (locs : List Loc), PM D G ad σ H → va_S A s.heap H locs → ∀ (ls : Array Slot), lv_has ls 6 [(0, .ref (ad 500)), (3, .int y18)] → W p l e rmM_byHand s m args below meth c0 H locs 0 0 Q (F0 m 100 ls [])) → (ex2 = (.inr ()) → ∀ (H : Heap) (locs : List Loc), PM D G ad σ H → va_S A s.heap H locs → ∀ (ls : Array Slot), lv_has ls 6 [] → W p l e rmM_byHand s m args below meth c0 H locs 0 0 Q (F0 m 117 ls [])) → W p l e rmM_byHand s m args below meth c0 H locs 0 0 Q (F0 m 2 ls []) := by
    refine loop_P (fun st2 ex2 o2 hf ih2 hx2 => ?_)
    obtain ⟨y1, rfl⟩ : ∃ z, z = st2 := ⟨_, rfl⟩
    intro H locs (hP : PM D G ad σ H) hS ls (hl : lv_has ls 6 [(0, .ref (ad 500)), (1, .int x1), (2, .int x2), (3, .int y1)]) KE2_0 KE2_1
    dsimp only [mo_byHand_L2] at hf
    refine lv_iload_n hx hb dX16_byHand_2 rfl (lv_at hl 3 rfl) ?_
    refine lv_aload_n hx hb dX16_byHand_3 rfl (lv_at hl 0 rfl) ?_
    refine gM_43 (v := (σ.1 543)) E hK hP rfl dX16_byHand_4 ?_
    refine lv_icmp_ge (tgt := 117) hx hb dX16_byHand_7 (by decide) (fun c2 => ?_) (fun c2 => ?_)
    · have hf := ifT c2 hf
      exact KE2_1  (hx2 _ (Option.some.inj hf).symm).symm H locs hP hS ls (lv_sub hl [] rfl)
    · have hf := ifF c2 hf
      refine lv_aload_n hx hb dX16_byHand_10 rfl (lv_at hl 0 rfl) ?_
      refine gM_44 E hK hP dX16_byHand_11 ?_
      refine lv_iconst hx hb dX16_byHand_14 ic_4 ?_
      refine lv_iload_n hx hb dX16_byHand_15 rfl (lv_at hl 3 rfl) ?_
      refine lv_imul hx hb dX16_byHand_16 ?_
      refine lv_iconst hx hb dX16_byHand_17 ic_1 ?_
      refine lv_iadd hx hb dX16_byHand_18 ?_
      obtain ⟨v3, hv3, hf⟩ := bdP hf
      refine p_iald hx hb hK hP dM_644 rfl hv3 dX16_byHand_19 ?_
      refine lv_istore (lv' := [(4, .int v3), (0, .ref (ad 500)), (1, .int x1), (2, .int x2), (3, .int y1)]) hx hb dX16_byHand_20 hl (by decide) rfl (fun ls hl => ?_)
      refine lv_aload_n hx hb dX16_byHand_22 rfl (lv_at hl 1 rfl) ?_
      refine gM_44 E hK hP dX16_byHand_23 ?_
      refine lv_iconst hx hb dX16_byHand_26 ic_4 ?_
      refine lv_iload_n hx hb dX16_byHand_27 rfl (lv_at hl 4 rfl) ?_
      refine lv_imul hx hb dX16_byHand_28 ?_
      obtain ⟨v4, hv4, hf⟩ := bdP hf
      refine p_iald hx hb hK hP dM_644 rfl hv4 dX16_byHand_29 ?_
      refine lv_iload_n hx hb dX16_byHand_30 rfl (lv_at hl 2 rfl) ?_
      have J111 : mo_byHand_J111 y1 = some o2 → ∀ (H : Heap) (locs : List Loc), PM D G ad σ H → va_S A s.heap H locs → ∀ (ls : Array Slot), lv_has ls 6 [(0, .ref (ad 500)), (1, .int x1), (2, .int x2), (3, .int y1)] → W p l e rmM_byHand s m args below meth c0 H locs 0 0 Q (F0 m 111 ls []) := by
        intro  hf H locs hP hS ls hl
        unfold mo_byHand_J111 at hf
        obtain ⟨v5, hv5, hf⟩ := bdP hf
        refine lv_iinc (v := v5) (lv' := [(3, .int v5), (0, .ref (ad 500)), (1, .int x1), (2, .int x2)]) hx hb dX16_byHand_111 hl (k := 3) rfl (Option.some.inj hv5) (by decide) rfl (fun ls hl => ?_)
        refine lv_goto (tgt := 2) hx hb dX16_byHand_114 (by decide) ?_
        exact ih2 _ (Option.some.inj hf).symm H locs hP hS ls (lv_sub hl [1, 2, 3, 0] rfl) KE2_0 KE2_1
      refine lv_icmp_ne (tgt := 111) hx hb dX16_byHand_31 (by decide) (fun c6 => ?_) (fun c6 => ?_)
      · have hf := ifF c6 hf
        exact J111  hf H locs hP hS ls (lv_sub hl [1, 2, 3, 4] rfl)
      · have hf := ifT c6 hf
        refine lv_iload hx hb dX16_byHand_34 (lv_at hl 0 rfl) ?_
        refine lv_iconst hx hb dX16_byHand_36 ic_m1 ?_
        have J63 : mo_byHand_J63 (σ.2.2.1 615) (σ.2.2.1 621) (σ.2.2.1 624) (σ.2.2.1 644) x1 y1 x2 = some o2 → ∀ (H : Heap) (locs : List Loc), PM D G ad σ H → va_S A s.heap H locs → ∀ (ls : Array Slot), lv_has ls 6 [(0, .ref (ad 500)), (1, .int x1), (2, .int x2), (3, .int y1)] → W p l e rmM_byHand s m args below meth c0 H locs 0 0 Q (F0 m 63 ls []) := by
          intro  hf H locs hP hS ls hl
          unfold mo_byHand_J63 at hf
          refine lv_aload_n hx hb dX16_byHand_63 rfl (lv_at hl 0 rfl) ?_
          refine gM_21 E hK hP dX16_byHand_64 ?_
          refine lv_bipush hx hb dX16_byHand_67 bp_10 ?_
          refine lv_iload_n hx hb dX16_byHand_69 rfl (lv_at hl 1 rfl) ?_
          refine lv_imul hx hb dX16_byHand_70 ?_
          refine lv_aload_n hx hb dX16_byHand_71 rfl (lv_at hl 0 rfl) ?_
          refine gM_44 E hK hP dX16_byHand_72 ?_
          refine lv_iconst hx hb dX16_byHand_75 ic_4 ?_
          refine lv_iload_n hx hb dX16_byHand_76 rfl (lv_at hl 3 rfl) ?_
          refine lv_imul hx hb dX16_byHand_77 ?_
          refine lv_iconst hx hb dX16_byHand_78 ic_3 ?_
          refine lv_iadd hx hb dX16_byHand_79 ?_
          obtain ⟨v7, hv7, hf⟩ := bdP hf
          refine p_iald hx hb hK hP dM_644 rfl hv7 dX16_byHand_80 ?_
          refine lv_iadd hx hb dX16_byHand_81 ?_
          obtain ⟨v8, hv8, hf⟩ := bdP hf
          refine p_iald hx hb hK hP dM_621 rfl hv8 dX16_byHand_82 ?_
          refine lv_istore (lv' := [(5, .int v8), (0, .ref (ad 500)), (1, .int x1), (2, .int x2), (3, .int y1)]) hx hb dX16_byHand_83 hl (by decide) rfl (fun ls hl => ?_)
          refine lv_iload hx hb dX16_byHand_85 (lv_at hl 0 rfl) ?_
          refine lv_if_lt (tgt := 111) hx hb dX16_byHand_87 (by decide) (fun c9 => ?_) (fun c9 => ?_)
          · have hf := ifT c9 hf
            exact J111  hf H locs hP hS ls (lv_sub hl [1, 2, 3, 4] rfl)
          · have hf := ifF c9 hf
            refine lv_aload_n hx hb dX16_byHand_90 rfl (lv_at hl 1 rfl) ?_
            refine lv_iload hx hb dX16_byHand_91 (lv_at hl 0 rfl) ?_
            refine lv_iload_n hx hb dX16_byHand_93 rfl (lv_at hl 3 rfl) ?_
            obtain ⟨v10, u11, hf⟩ := bdP hf
            refine cM_hoursOf E hK hP hS hA rfl rfl u11 ⟨Nat.le_of_ble_eq_true rfl, Nat.le_of_ble_eq_true rfl⟩ ⟨Nat.zero_le _, Nat.zero_le _⟩ hl.1 (Nat.le_of_ble_eq_true rfl) dX16_byHand_94 (fun H locs hP hS => ?_)
            refine lv_if_lt (tgt := 111) hx hb dX16_byHand_97 (by decide) (fun c12 => ?_) (fun c12 => ?_)
            · have hf := ifT c12 hf
              exact J111  hf H locs hP hS ls (lv_sub hl [1, 2, 3, 4] rfl)
            · have hf := ifF c12 hf
              exact KE2_0 _ (hx2 _ (Option.some.inj hf).symm).symm H locs hP hS ls (lv_sub hl [1, 4] rfl)
        refine lv_icmp_eq (tgt := 63) hx hb dX16_byHand_37 (by decide) (fun c13 => ?_) (fun c13 => ?_)
        · have hf := ifT c13 hf
          exact J63  hf H locs hP hS ls (lv_sub hl [1, 2, 3, 4] rfl)
        · have hf := ifF c13 hf
          refine lv_aload_n hx hb dX16_byHand_40 rfl (lv_at hl 1 rfl) ?_
          refine lv_iload_n hx hb dX16_byHand_41 rfl (lv_at hl 3 rfl) ?_
          refine lv_iload hx hb dX16_byHand_42 (lv_at hl 0 rfl) ?_
          obtain ⟨v14, u15, hf⟩ := bdP hf
          refine cM_digit E hK hP hS hA rfl u15 ⟨Nat.le_of_ble_eq_true rfl, Nat.le_of_ble_eq_true rfl⟩ ⟨Nat.zero_le _, Nat.zero_le _⟩ hl.1 (Nat.le_of_ble_eq_true rfl) dX16_byHand_44 (fun H locs hP hS => ?_)
          refine lv_aload_n hx hb dX16_byHand_47 rfl (lv_at hl 1 rfl) ?_
          refine gM_44 E hK hP dX16_byHand_48 ?_
          refine lv_iconst hx hb dX16_byHand_51 ic_4 ?_
          refine lv_iload_n hx hb dX16_byHand_52 rfl (lv_at hl 4 rfl) ?_
          refine lv_imul hx hb dX16_byHand_53 ?_
          refine lv_iconst hx hb dX16_byHand_54 ic_2 ?_
          refine lv_iadd hx hb dX16_byHand_55 ?_
          obtain ⟨v16, hv16, hf⟩ := bdP hf
          refine p_iald hx hb hK hP dM_644 rfl hv16 dX16_byHand_56 ?_
          refine lv_icmp_eq (tgt := 63) hx hb dX16_byHand_57 (by decide) (fun c17 => ?_) (fun c17 => ?_)
          · have hf := ifT c17 hf
            exact J63  hf H locs hP hS ls (lv_sub hl [1, 2, 3, 4] rfl)
          · have hf := ifF c17 hf
            refine lv_goto (tgt := 111) hx hb dX16_byHand_60 (by decide) ?_
            exact J111  hf H locs hP hS ls (lv_sub hl [1, 2, 3, 4] rfl)
  obtain ⟨ex2, hlp2, hf⟩ := bdP hf
  refine LP2 0 ex2 hlp2 H locs hP hS ls (lv_sub hl [1, 2, 3, 0] rfl) ?_ ?_
  · intro y18 hex2 H locs hP hS ls hl
    subst ex2
    dsimp only [sE_l, sE_r] at hf
    refine lv_aload_n hx hb dX16_byHand_100 rfl (lv_at hl 0 rfl) ?_
    refine gM_44 E hK hP dX16_byHand_101 ?_
    refine lv_iconst hx hb dX16_byHand_104 ic_4 ?_
    refine lv_iload_n hx hb dX16_byHand_105 rfl (lv_at hl 1 rfl) ?_
    refine lv_imul hx hb dX16_byHand_106 ?_
    refine lv_iconst hx hb dX16_byHand_107 ic_3 ?_
    refine lv_iadd hx hb dX16_byHand_108 ?_
    obtain ⟨v19, hv19, hf⟩ := bdP hf
    refine p_iald hx hb hK hP dM_644 rfl hv19 dX16_byHand_109 ?_
    cases hf
    rw [hQ]; exact p_iret hx hb hr hlk hK hP hS dX16_byHand_110
  · intro  hex2 H locs hP hS ls hl
    subst ex2
    dsimp only [sE_l, sE_r] at hf
    refine lv_bipush hx hb dX16_byHand_117 bp_m2 ?_
    cases hf
    rw [hQ]; exact p_iret hx hb hr hlk hK hP hS dX16_byHand_119
theorem kM_byHand (l : Launch) (D : va_G) (G : Nat → ClassId) (ad : Nat → Nat) (σ : Sto) {x1 : Int32} {x2 : Int32} {r_ : Int32} (hf : mo_byHand (σ.1 543) (σ.2.2.1 615) (σ.2.2.1 621) (σ.2.2.1 624) (σ.2.2.1 644) x1 x2 = some r_) : CtI l D clsA G dscM ad yX16_byHand (ws_ yX16_byHand cX16_byHand 6 (Option.some Jvm.ClassFile.FieldType.int)) rmM_byHand [.ref (ad 500), .int x1, .int x2] σ r_ σ :=
  p_ctI (by decide +kernel) (Nat.le_of_ble_eq_true rfl) (fun p e s m below meth c0 ls A E hP hK hA hS hl => wkM_byHand E hK hA hf rfl hP hS hl)
theorem cM_byHand (E : EN p s m args meth c0 RX16 cc nL ret) (hK : KK D clsA G s) (hP : PM D G ad σ H) (hS : va_S A s.heap H locs) (hA : ∀ q, PA dscM ad s.heap.size q → A q) {x1 : Int32} {x2 : Int32} {r_ : Int32} {z_rules : Int32} (e_zI543 : σ.1 543 = z_rules) {a_road : Nat → Int32} (e_aI615 : σ.2.2.1 615 = a_road) {a_between : Nat → Int32} (e_aI621 : σ.2.2.1 621 = a_between) {a_three : Nat → Int32} (e_aI624 : σ.2.2.1 624 = a_three) {a_rule : Nat → Int32} (e_aI644 : σ.2.2.1 644 = a_rule) (hu : mo_byHand z_rules a_road a_between a_three a_rule x1 x2 = some r_) (hR : rmM_byHand.frames + 1 ≤ R.frames ∧ 8 + (6 + 11) + rmM_byHand.locals ≤ R.locals) (hcs : cells ≤ R.cells ∧ slots ≤ R.slots) (hsz : ls.size = nL) (hW : (rest.map fun v => v.category).sum ≤ 8) (hdg : decode cc pc = .ok (.invokevirtual 389, 3)) (kk : ∀ (H1 : Heap) (locs1 : List Loc), PM D G ad σ H1 → va_S A s.heap H1 locs1 → W p l e R s m args below meth c0 H1 locs1 cells slots Q (F0 m (pc + 3) ls (.int r_ :: rest))) : W p l e R s m args below meth c0 H locs cells slots Q (F0 m pc ls (.int x2 :: .int x1 :: .ref (ad 500) :: rest)) := by
  subst e_zI543
  subst e_aI615
  subst e_aI621
  subst e_aI624
  subst e_aI644
  exact p_callI (As := [.int x1, .int x2]) (rest := rest) E.1 hK hP hS hA (kM_byHand l D G ad σ hu) (cwV 2 E.1.2.2.2.2 (lw_V q2124 q2126 qs107 q142 q2127) rfl rfl rfl (by decide +kernel) hR) dM_500 rfl rfl rfl hsz rfl hW hdg hcs kk
/-! firstUnknown(I)I -/
abbrev rmM_firstUnknown : Room := { frames := 1, cells := 0, slots := 0, locals := 22 }
set_option maxHeartbeats 4000000 in
theorem wkM_firstUnknown {x1 : Int32} {r_ : Int32} (E : EN p s m args meth c0 RX16 cX16_firstUnknown 3 (Option.some Jvm.ClassFile.FieldType.int)) (hK : KK D clsA G s) (hA : ∀ q, PA dscM ad s.heap.size q → A q) (hf : mo_firstUnknown (σ.1 541) (σ.2.2.1 624) (σ.2.2.1 642) x1 = some r_) (hQ : Q = MQ below (va_Qi (fun x (_ : Unit) => x = r_) (fun _ t => PM D G ad σ t.heap ∧ KK D clsA G t) A) args s 0 0 A) (hP : PM D G ad σ H) (hS : va_S A s.heap H locs) (hl : lv_has ls 3 [(0, .ref (ad 500)), (1, .int x1)]) : W p l e rmM_firstUnknown s m args below meth c0 H locs 0 0 Q (F0 m 0 ls []) := by
  obtain ⟨⟨hx, hb, hml, hown, hts⟩, hr, hlk⟩ := id E
  unfold mo_firstUnknown at hf
  refine lv_iconst hx hb dX16_firstUnknown_0 ic_0 ?_
  refine lv_istore_n (lv' := [(2, .int 0), (0, .ref (ad 500)), (1, .int x1)]) hx hb dX16_firstUnknown_1 rfl hl (by decide) rfl (fun ls hl => ?_)
  have LP2 : ∀ (st2 : Int32) (ex2 : (Int32) ⊕ (Unit)), loop (mo_firstUnknown_L2 (σ.1 541) (σ.2.2.1 624) (σ.2.2.1 642) x1) st2 = some ex2 → ∀ (H : Heap) (locs : List Loc), PM D G ad σ H → va_S A s.heap H locs → ∀ (ls : Array Slot), lv_has ls 3 [(0, .ref (ad 500)), (1, .int x1), (2, .int st2)] → (∀ (y8 : Int32), ex2 = (.inl y8) → ∀ (H : Heap) (locs : List Loc), PM D G ad σ H → va_S A s.heap H locs → ∀ (ls : Array Slot), lv_has ls 3 [(0, .ref (ad 500)), (2, .int y8)] → W p l e rmM_firstUnknown s m args below meth c0 H locs 0 0 Q (F0 m 24 ls [])) → (ex2 = (.inr ()) → ∀ (H : Heap) (locs : List Loc), PM D G ad σ H → va_S A s.heap H locs → ∀ (ls : Array Slot), lv_has ls 3 [] → W p l e rmM_firstUnknown s m args below meth c0 H locs 0 0 Q (F0 m 37 ls [])) → W p l e rmM_firstUnknown s m args below meth c0 H locs 0 0 Q (F0 m 2 ls []) := by
    refine loop_P (fun st2 ex2 o2 hf ih2 hx2 => ?_)
    obtain ⟨y1, rfl⟩ : ∃ z, z = st2 := ⟨_, rfl⟩
    intro H locs (hP : PM D G ad σ H) hS ls (hl : lv_has ls 3 [(0, .ref (ad 500)), (1, .int x1), (2, .int y1)]) KE2_0 KE2_1
    dsimp only [mo_firstUnknown_L2] at hf
    refine lv_iload_n hx hb dX16_firstUnknown_2 rfl (lv_at hl 2 rfl) ?_
    refine lv_aload_n hx hb dX16_firstUnknown_3 rfl (lv_at hl 0 rfl) ?_
    refine gM_41 (v := (σ.1 541)) E hK hP rfl dX16_firstUnknown_4 ?_
    refine lv_icmp_ge (tgt := 37) hx hb dX16_firstUnknown_7 (by decide) (fun c2 => ?_) (fun c2 => ?_)
    · have hf := ifT c2 hf
      exact KE2_1  (hx2 _ (Option.some.inj hf).symm).symm H locs hP hS ls (lv_sub hl [] rfl)
    · have hf := ifF c2 hf
      refine lv_aload_n hx hb dX16_firstUnknown_10 rfl (lv_at hl 0 rfl) ?_
      refine lv_iload_n hx hb dX16_firstUnknown_11 rfl (lv_at hl 1 rfl) ?_
      refine lv_aload_n hx hb dX16_firstUnknown_12 rfl (lv_at hl 0 rfl) ?_
      refine gM_42 E hK hP dX16_firstUnknown_13 ?_
      refine lv_iload_n hx hb dX16_firstUnknown_16 rfl (lv_at hl 2 rfl) ?_
      obtain ⟨v3, hv3, hf⟩ := bdP hf
      refine p_iald hx hb hK hP dM_642 rfl hv3 dX16_firstUnknown_17 ?_
      obtain ⟨v4, u5, hf⟩ := bdP hf
      refine cM_digit E hK hP hS hA rfl u5 ⟨Nat.le_of_ble_eq_true rfl, Nat.le_of_ble_eq_true rfl⟩ ⟨Nat.zero_le _, Nat.zero_le _⟩ hl.1 (Nat.le_of_ble_eq_true rfl) dX16_firstUnknown_18 (fun H locs hP hS => ?_)
      refine lv_if_ne (tgt := 31) hx hb dX16_firstUnknown_21 (by decide) (fun c6 => ?_) (fun c6 => ?_)
      · have hf := ifF c6 hf
        obtain ⟨v7, hv7, hf⟩ := bdP hf
        refine lv_iinc (v := v7) (lv' := [(2, .int v7), (0, .ref (ad 500)), (1, .int x1)]) hx hb dX16_firstUnknown_31 hl (k := 2) rfl (Option.some.inj hv7) (by decide) rfl (fun ls hl => ?_)
        refine lv_goto (tgt := 2) hx hb dX16_firstUnknown_34 (by decide) ?_
        exact ih2 _ (Option.some.inj hf).symm H locs hP hS ls (lv_sub hl [1, 2, 0] rfl) KE2_0 KE2_1
      · have hf := ifT c6 hf
        exact KE2_0 _ (hx2 _ (Option.some.inj hf).symm).symm H locs hP hS ls (lv_sub hl [0, 2] rfl)
  obtain ⟨ex2, hlp2, hf⟩ := bdP hf
  refine LP2 0 ex2 hlp2 H locs hP hS ls (lv_sub hl [1, 2, 0] rfl) ?_ ?_
  · intro y8 hex2 H locs hP hS ls hl
    subst ex2
    dsimp only [sE_l, sE_r] at hf
    refine lv_aload_n hx hb dX16_firstUnknown_24 rfl (lv_at hl 0 rfl) ?_
    refine gM_42 E hK hP dX16_firstUnknown_25 ?_
    refine lv_iload_n hx hb dX16_firstUnknown_28 rfl (lv_at hl 1 rfl) ?_
    obtain ⟨v9, hv9, hf⟩ := bdP hf
    refine p_iald hx hb hK hP dM_642 rfl hv9 dX16_firstUnknown_29 ?_
    cases hf
    rw [hQ]; exact p_iret hx hb hr hlk hK hP hS dX16_firstUnknown_30
  · intro  hex2 H locs hP hS ls hl
    subst ex2
    dsimp only [sE_l, sE_r] at hf
    refine lv_iconst hx hb dX16_firstUnknown_37 ic_m1 ?_
    cases hf
    rw [hQ]; exact p_iret hx hb hr hlk hK hP hS dX16_firstUnknown_38
theorem kM_firstUnknown (l : Launch) (D : va_G) (G : Nat → ClassId) (ad : Nat → Nat) (σ : Sto) {x1 : Int32} {r_ : Int32} (hf : mo_firstUnknown (σ.1 541) (σ.2.2.1 624) (σ.2.2.1 642) x1 = some r_) : CtI l D clsA G dscM ad yX16_firstUnknown (ws_ yX16_firstUnknown cX16_firstUnknown 3 (Option.some Jvm.ClassFile.FieldType.int)) rmM_firstUnknown [.ref (ad 500), .int x1] σ r_ σ :=
  p_ctI (by decide +kernel) (Nat.le_of_ble_eq_true rfl) (fun p e s m below meth c0 ls A E hP hK hA hS hl => wkM_firstUnknown E hK hA hf rfl hP hS hl)
theorem cM_firstUnknown (E : EN p s m args meth c0 RX16 cc nL ret) (hK : KK D clsA G s) (hP : PM D G ad σ H) (hS : va_S A s.heap H locs) (hA : ∀ q, PA dscM ad s.heap.size q → A q) {x1 : Int32} {r_ : Int32} {z_rowSize : Int32} (e_zI541 : σ.1 541 = z_rowSize) {a_three : Nat → Int32} (e_aI624 : σ.2.2.1 624 = a_three) {a_row : Nat → Int32} (e_aI642 : σ.2.2.1 642 = a_row) (hu : mo_firstUnknown z_rowSize a_three a_row x1 = some r_) (hR : rmM_firstUnknown.frames + 1 ≤ R.frames ∧ 8 + (3 + 11) + rmM_firstUnknown.locals ≤ R.locals) (hcs : cells ≤ R.cells ∧ slots ≤ R.slots) (hsz : ls.size = nL) (hW : (rest.map fun v => v.category).sum ≤ 8) (hdg : decode cc pc = .ok (.invokevirtual 392, 3)) (kk : ∀ (H1 : Heap) (locs1 : List Loc), PM D G ad σ H1 → va_S A s.heap H1 locs1 → W p l e R s m args below meth c0 H1 locs1 cells slots Q (F0 m (pc + 3) ls (.int r_ :: rest))) : W p l e R s m args below meth c0 H locs cells slots Q (F0 m pc ls (.int x1 :: .ref (ad 500) :: rest)) := by
  subst e_zI541
  subst e_aI624
  subst e_aI642
  exact p_callI (As := [.int x1]) (rest := rest) E.1 hK hP hS hA (kM_firstUnknown l D G ad σ hu) (cwV 1 E.1.2.2.2.2 (lw_V q2128 q2130 qs108 q142 q2131) rfl rfl rfl (by decide +kernel) hR) dM_500 rfl rfl rfl hsz rfl hW hdg hcs kk
/-! hopAt(III)I -/
def sgM_hopAt (σ : Sto) (w0 : Nat → Int32) (w1 : Nat → Int32) : Sto := aI (aI σ 629 w0) 640 w1
theorem sgM_hopAt_self (σ : Sto) : sgM_hopAt σ (σ.2.2.1 629) (σ.2.2.1 640) = σ := by
  unfold sgM_hopAt
  simp only [zI_self, zL_self, aI_self, aL_self]
theorem sgM_hopAt_aI629 {σ : Sto} {w0 : Nat → Int32} {w1 : Nat → Int32} {g : Nat → Int32} : aI (sgM_hopAt σ w0 w1) 629 g = sgM_hopAt σ g w1 := (aI_comm _ (by decide) _ _).trans (congrArg (fun z => aI z 640 w1) (aI_aI _ 629 _ _))
theorem sgM_hopAt_aI640 {σ : Sto} {w0 : Nat → Int32} {w1 : Nat → Int32} {g : Nat → Int32} : aI (sgM_hopAt σ w0 w1) 640 g = sgM_hopAt σ w0 g := aI_aI _ 640 _ _
theorem sgM_hopAt_raI611 {σ : Sto} {w0 : Nat → Int32} {w1 : Nat → Int32} : (sgM_hopAt σ w0 w1).2.2.1 611 = σ.2.2.1 611 := rfl
theorem sgM_hopAt_raI615 {σ : Sto} {w0 : Nat → Int32} {w1 : Nat → Int32} : (sgM_hopAt σ w0 w1).2.2.1 615 = σ.2.2.1 615 := rfl
theorem sgM_hopAt_raI621 {σ : Sto} {w0 : Nat → Int32} {w1 : Nat → Int32} : (sgM_hopAt σ w0 w1).2.2.1 621 = σ.2.2.1 621 := rfl
theorem sgM_hopAt_raI624 {σ : Sto} {w0 : Nat → Int32} {w1 : Nat → Int32} : (sgM_hopAt σ w0 w1).2.2.1 624 = σ.2.2.1 624 := rfl
theorem sgM_hopAt_raI629 {σ : Sto} {w0 : Nat → Int32} {w1 : Nat → Int32} : (sgM_hopAt σ w0 w1).2.2.1 629 = w0 := rfl
theorem sgM_hopAt_raI640 {σ : Sto} {w0 : Nat → Int32} {w1 : Nat → Int32} : (sgM_hopAt σ w0 w1).2.2.1 640 = w1 := rfl
abbrev rmM_hopAt : Room := { frames := 4, cells := 0, slots := 0, locals := 96 }
set_option maxHeartbeats 4000000 in
theorem wkM_hopAt {x1 : Int32} {x2 : Int32} {x3 : Int32} {r_ : Int32} {w_aI629 : Nat → Int32} {w_aI640 : Nat → Int32} (E : EN p s m args meth c0 RX16 cX16_hopAt 9 (Option.some Jvm.ClassFile.FieldType.int)) (hK : KK D clsA G s) (hA : ∀ q, PA dscM ad s.heap.size q → A q) (hf : mo_hopAt (σ.2.2.1 611) (σ.2.2.1 615) (σ.2.2.1 621) (σ.2.2.1 624) (σ.2.2.1 629) (σ.2.2.1 640) x1 x2 x3 = some (r_, w_aI629, w_aI640)) (hQ : Q = MQ below (va_Qi (fun x (_ : Unit) => x = r_) (fun _ t => PM D G ad (sgM_hopAt σ w_aI629 w_aI640) t.heap ∧ KK D clsA G t) A) args s 0 0 A) (hP : PM D G ad σ H) (hS : va_S A s.heap H locs) (hl : lv_has ls 9 [(0, .ref (ad 500)), (1, .int x1), (2, .int x2), (3, .int x3)]) : W p l e rmM_hopAt s m args below meth c0 H locs 0 0 Q (F0 m 0 ls []) := by
  obtain ⟨⟨hx, hb, hml, hown, hts⟩, hr, hlk⟩ := id E
  have hP := hP.to (sgM_hopAt_self σ).symm
  unfold mo_hopAt at hf
  refine lv_bipush hx hb dX16_hopAt_0 bp_80 ?_
  refine lv_iload_n hx hb dX16_hopAt_2 rfl (lv_at hl 1 rfl) ?_
  refine lv_imul hx hb dX16_hopAt_3 ?_
  refine lv_bipush hx hb dX16_hopAt_4 bp_10 ?_
  refine lv_iload_n hx hb dX16_hopAt_6 rfl (lv_at hl 2 rfl) ?_
  refine lv_iconst hx hb dX16_hopAt_7 ic_1 ?_
  refine lv_iadd hx hb dX16_hopAt_8 ?_
  refine lv_imul hx hb dX16_hopAt_9 ?_
  refine lv_iadd hx hb dX16_hopAt_10 ?_
  obtain ⟨v1, hv1, hf⟩ := bdP hf
  refine nm_i (Option.some.inj hv1) ?_
  refine lv_istore (lv' := [(4, .int v1), (0, .ref (ad 500)), (1, .int x1), (2, .int x2), (3, .int x3)]) hx hb dX16_hopAt_11 hl (by decide) rfl (fun ls hl => ?_)
  refine lv_aload_n hx hb dX16_hopAt_13 rfl (lv_at hl 1 rfl) ?_
  refine gM_40 E hK hP dX16_hopAt_14 ?_
  refine lv_iload hx hb dX16_hopAt_17 (lv_at hl 0 rfl) ?_
  refine lv_iload_n hx hb dX16_hopAt_19 rfl (lv_at hl 4 rfl) ?_
  refine lv_iadd hx hb dX16_hopAt_20 ?_
  obtain ⟨v2, hv2, hf⟩ := bdP hf
  refine p_iald hx hb hK hP dM_640 sgM_hopAt_raI640 hv2 dX16_hopAt_21 ?_
  have J177 : ∀ (a3 : Nat → Int32) (a4 : Nat → Int32), mo_hopAt_J177 v1 x3 a3 a4 = some (r_, w_aI629, w_aI640) → ∀ (H : Heap) (locs : List Loc), PM D G ad (sgM_hopAt σ a3 a4) H → va_S A s.heap H locs → ∀ (ls : Array Slot), lv_has ls 9 [(0, .ref (ad 500)), (3, .int x3), (4, .int v1)] → W p l e rmM_hopAt s m args below meth c0 H locs 0 0 Q (F0 m 177 ls []) := by
    intro a3 a4 hf H locs hP hS ls hl
    unfold mo_hopAt_J177 at hf
    refine lv_aload_n hx hb dX16_hopAt_177 rfl (lv_at hl 0 rfl) ?_
    refine gM_40 E hK hP dX16_hopAt_178 ?_
    refine lv_iload hx hb dX16_hopAt_181 (lv_at hl 2 rfl) ?_
    refine lv_iload_n hx hb dX16_hopAt_183 rfl (lv_at hl 1 rfl) ?_
    refine lv_iadd hx hb dX16_hopAt_184 ?_
    obtain ⟨v5, hv5, hf⟩ := bdP hf
    refine p_iald hx hb hK hP dM_640 sgM_hopAt_raI640 hv5 dX16_hopAt_185 ?_
    refine lv_iconst hx hb dX16_hopAt_186 ic_1 ?_
    refine lv_icmp_ne (tgt := 195) hx hb dX16_hopAt_187 (by decide) (fun c6 => ?_) (fun c6 => ?_)
    · have hf := ifF c6 hf
      refine lv_aload_n hx hb dX16_hopAt_195 rfl (lv_at hl 0 rfl) ?_
      refine gM_40 E hK hP dX16_hopAt_196 ?_
      refine lv_iload hx hb dX16_hopAt_199 (lv_at hl 2 rfl) ?_
      refine lv_iload_n hx hb dX16_hopAt_201 rfl (lv_at hl 1 rfl) ?_
      refine lv_iadd hx hb dX16_hopAt_202 ?_
      obtain ⟨v7, hv7, hf⟩ := bdP hf
      refine p_iald hx hb hK hP dM_640 sgM_hopAt_raI640 hv7 dX16_hopAt_203 ?_
      refine lv_iconst hx hb dX16_hopAt_204 ic_2 ?_
      refine lv_isub hx hb dX16_hopAt_205 ?_
      cases hf
      rw [hQ]; exact p_iret hx hb hr hlk hK hP hS dX16_hopAt_206
    · have hf := ifT c6 hf
      refine lv_bipush hx hb dX16_hopAt_190 bp_m2 ?_
      refine lv_goto (tgt := 206) hx hb dX16_hopAt_192 (by decide) ?_
      cases hf
      rw [hQ]; exact p_iret hx hb hr hlk hK hP hS dX16_hopAt_206
  refine lv_if_ne (tgt := 177) hx hb dX16_hopAt_22 (by decide) (fun c8 => ?_) (fun c8 => ?_)
  · have hf := ifF c8 hf
    exact J177 (σ.2.2.1 629) (σ.2.2.1 640) hf H locs hP hS ls (lv_sub hl [1, 4, 0] rfl)
  · have hf := ifT c8 hf
    refine lv_aload_n hx hb dX16_hopAt_25 rfl (lv_at hl 1 rfl) ?_
    refine lv_iload_n hx hb dX16_hopAt_26 rfl (lv_at hl 2 rfl) ?_
    refine lv_iload_n hx hb dX16_hopAt_27 rfl (lv_at hl 3 rfl) ?_
    obtain ⟨a9, u10, hf⟩ := bdP hf
    refine cM_layFar E hK hP hS hA sgM_hopAt_raI611 sgM_hopAt_raI615 sgM_hopAt_raI624 sgM_hopAt_raI629 u10 ⟨Nat.le_of_ble_eq_true rfl, Nat.le_of_ble_eq_true rfl⟩ ⟨Nat.zero_le _, Nat.zero_le _⟩ hl.1 (Nat.le_of_ble_eq_true rfl) dX16_hopAt_28 (fun H locs hP hS => ?_)
    rw [sgM_hopAt_aI629] at hP
    refine lv_iconst hx hb dX16_hopAt_31 ic_0 ?_
    refine lv_istore (lv' := [(5, .int 0), (4, .int v1), (0, .ref (ad 500)), (1, .int x1), (2, .int x2), (3, .int x3)]) hx hb dX16_hopAt_32 hl (by decide) rfl (fun ls hl => ?_)
    have LP34 : ∀ (st34 : Int32 × (Nat → Int32)) (ex34 : ((Nat → Int32))), loop (mo_hopAt_L34 (σ.2.2.1 611) (σ.2.2.1 615) (σ.2.2.1 621) (σ.2.2.1 624) v1 x1 x2 a9) st34 = some ex34 → ∀ (H : Heap) (locs : List Loc), PM D G ad (sgM_hopAt σ a9 (st34.2)) H → va_S A s.heap H locs → ∀ (ls : Array Slot), lv_has ls 9 [(0, .ref (ad 500)), (1, .int x1), (2, .int x2), (3, .int x3), (4, .int v1), (5, .int (st34.1))] → (∀ (a41 : Nat → Int32), ex34 = a41 → ∀ (H : Heap) (locs : List Loc), PM D G ad (sgM_hopAt σ a9 a41) H → va_S A s.heap H locs → ∀ (ls : Array Slot), lv_has ls 9 [(0, .ref (ad 500)), (3, .int x3), (4, .int v1)] → W p l e rmM_hopAt s m args below meth c0 H locs 0 0 Q (F0 m 177 ls [])) → W p l e rmM_hopAt s m args below meth c0 H locs 0 0 Q (F0 m 34 ls []) := by
      refine loop_P (fun st34 ex34 o34 hf ih34 hx34 => ?_)
      obtain ⟨y11, a12⟩ := st34
      intro H locs (hP : PM D G ad (sgM_hopAt σ a9 a12) H) hS ls (hl : lv_has ls 9 [(0, .ref (ad 500)), (1, .int x1), (2, .int x2), (3, .int x3), (4, .int v1), (5, .int y11)]) KE34_0
      dsimp only [mo_hopAt_L34] at hf
      refine lv_iload hx hb dX16_hopAt_34 (lv_at hl 5 rfl) ?_
      refine lv_aload_n hx hb dX16_hopAt_36 rfl (lv_at hl 0 rfl) ?_
      obtain ⟨v13, u14, hf⟩ := bdP hf
      refine cM_places E hK hP hS hA sgM_hopAt_raI611 u14 ⟨Nat.le_of_ble_eq_true rfl, Nat.le_of_ble_eq_true rfl⟩ ⟨Nat.zero_le _, Nat.zero_le _⟩ hl.1 (Nat.le_of_ble_eq_true rfl) dX16_hopAt_37 (fun H locs hP hS => ?_)
      refine lv_icmp_ge (tgt := 177) hx hb dX16_hopAt_40 (by decide) (fun c15 => ?_) (fun c15 => ?_)
      · have hf := ifT c15 hf
        exact KE34_0 _ (hx34 _ (Option.some.inj hf).symm).symm H locs hP hS ls (lv_sub hl [0, 3, 4] rfl)
      · have hf := ifF c15 hf
        refine lv_aload_n hx hb dX16_hopAt_43 rfl (lv_at hl 0 rfl) ?_
        refine gM_40 E hK hP dX16_hopAt_44 ?_
        refine lv_iload hx hb dX16_hopAt_47 (lv_at hl 4 rfl) ?_
        refine lv_iload hx hb dX16_hopAt_49 (lv_at hl 5 rfl) ?_
        refine lv_iadd hx hb dX16_hopAt_51 ?_
        refine lv_iconst hx hb dX16_hopAt_52 ic_1 ?_
        obtain ⟨a16, ha16, hf⟩ := bdP hf
        refine p_iast hx hb hK hP hS (hA _ (PA_c dM_640)) dM_640 sgM_hopAt_raI640 ha16 sgM_hopAt_aI640 dX16_hopAt_53 (fun H locs hP hS => ?_)
        refine lv_aload_n hx hb dX16_hopAt_54 rfl (lv_at hl 0 rfl) ?_
        obtain ⟨v17, u18, hf⟩ := bdP hf
        refine cM_places E hK hP hS hA sgM_hopAt_raI611 u18 ⟨Nat.le_of_ble_eq_true rfl, Nat.le_of_ble_eq_true rfl⟩ ⟨Nat.zero_le _, Nat.zero_le _⟩ hl.1 (Nat.le_of_ble_eq_true rfl) dX16_hopAt_55 (fun H locs hP hS => ?_)
        refine lv_iconst hx hb dX16_hopAt_58 ic_1 ?_
        refine lv_isub hx hb dX16_hopAt_59 ?_
        obtain ⟨v19, hv19, hf⟩ := bdP hf
        refine nm_i (Option.some.inj hv19) ?_
        refine lv_istore (lv' := [(6, .int v19), (0, .ref (ad 500)), (1, .int x1), (2, .int x2), (3, .int x3), (4, .int v1), (5, .int y11)]) hx hb dX16_hopAt_60 hl (by decide) rfl (fun ls hl => ?_)
        have LP62 : ∀ (st62 : Int32 × (Nat → Int32)) (ex62 : ((Nat → Int32))), loop (mo_hopAt_L62 (σ.2.2.1 611) (σ.2.2.1 615) (σ.2.2.1 621) (σ.2.2.1 624) v1 x1 x2 a9 y11) st62 = some ex62 → ∀ (H : Heap) (locs : List Loc), PM D G ad (sgM_hopAt σ a9 (st62.2)) H → va_S A s.heap H locs → ∀ (ls : Array Slot), lv_has ls 9 [(0, .ref (ad 500)), (1, .int x1), (2, .int x2), (3, .int x3), (4, .int v1), (5, .int y11), (6, .int (st62.1))] → (∀ (a39 : Nat → Int32), ex62 = a39 → ∀ (H : Heap) (locs : List Loc), PM D G ad (sgM_hopAt σ a9 a39) H → va_S A s.heap H locs → ∀ (ls : Array Slot), lv_has ls 9 [(0, .ref (ad 500)), (1, .int x1), (2, .int x2), (3, .int x3), (4, .int v1), (5, .int y11)] → W p l e rmM_hopAt s m args below meth c0 H locs 0 0 Q (F0 m 171 ls [])) → W p l e rmM_hopAt s m args below meth c0 H locs 0 0 Q (F0 m 62 ls []) := by
          refine loop_P (fun st62 ex62 o62 hf ih62 hx62 => ?_)
          obtain ⟨y20, a21⟩ := st62
          intro H locs (hP : PM D G ad (sgM_hopAt σ a9 a21) H) hS ls (hl : lv_has ls 9 [(0, .ref (ad 500)), (1, .int x1), (2, .int x2), (3, .int x3), (4, .int v1), (5, .int y11), (6, .int y20)]) KE62_0
          dsimp only [mo_hopAt_L62] at hf
          refine lv_iload hx hb dX16_hopAt_62 (lv_at hl 6 rfl) ?_
          refine lv_if_lt (tgt := 171) hx hb dX16_hopAt_64 (by decide) (fun c22 => ?_) (fun c22 => ?_)
          · have hf := ifT c22 hf
            exact KE62_0 _ (hx62 _ (Option.some.inj hf).symm).symm H locs hP hS ls (lv_sub hl [0, 1, 2, 3, 4, 5] rfl)
          · have hf := ifF c22 hf
            refine lv_iload hx hb dX16_hopAt_67 (lv_at hl 5 rfl) ?_
            refine lv_aload_n hx hb dX16_hopAt_69 rfl (lv_at hl 0 rfl) ?_
            refine gM_11 E hK hP dX16_hopAt_70 ?_
            refine lv_bipush hx hb dX16_hopAt_73 bp_7 ?_
            obtain ⟨v23, hv23, hf⟩ := bdP hf
            refine p_iald hx hb hK hP dM_611 sgM_hopAt_raI611 hv23 dX16_hopAt_75 ?_
            refine lv_icmp_eq (tgt := 171) hx hb dX16_hopAt_76 (by decide) (fun c24 => ?_) (fun c24 => ?_)
            · have hf := ifT c24 hf
              exact KE62_0 _ (hx62 _ (Option.some.inj hf).symm).symm H locs hP hS ls (lv_sub hl [0, 1, 2, 3, 4, 5] rfl)
            · have hf := ifF c24 hf
              refine lv_aload_n hx hb dX16_hopAt_79 rfl (lv_at hl 0 rfl) ?_
              refine gM_21 E hK hP dX16_hopAt_80 ?_
              refine lv_bipush hx hb dX16_hopAt_83 bp_10 ?_
              refine lv_iload hx hb dX16_hopAt_85 (lv_at hl 5 rfl) ?_
              refine lv_imul hx hb dX16_hopAt_87 ?_
              refine lv_iload hx hb dX16_hopAt_88 (lv_at hl 6 rfl) ?_
              refine lv_iadd hx hb dX16_hopAt_90 ?_
              obtain ⟨v25, hv25, hf⟩ := bdP hf
              refine p_iald hx hb hK hP dM_621 sgM_hopAt_raI621 hv25 dX16_hopAt_91 ?_
              refine lv_istore (lv' := [(7, .int v25), (0, .ref (ad 500)), (1, .int x1), (2, .int x2), (3, .int x3), (4, .int v1), (5, .int y11), (6, .int y20)]) hx hb dX16_hopAt_92 hl (by decide) rfl (fun ls hl => ?_)
              refine lv_iload hx hb dX16_hopAt_94 (lv_at hl 0 rfl) ?_
              have J111 : ∀ (k26 : Int32), mo_hopAt_J111 v1 a9 y11 y20 a21 k26 = some o62 → ∀ (H : Heap) (locs : List Loc), PM D G ad (sgM_hopAt σ a9 a21) H → va_S A s.heap H locs → ∀ (ls : Array Slot), lv_has ls 9 [(0, .ref (ad 500)), (1, .int x1), (2, .int x2), (3, .int x3), (4, .int v1), (5, .int y11), (6, .int y20)] → W p l e rmM_hopAt s m args below meth c0 H locs 0 0 Q (F0 m 111 ls [.int k26]) := by
                intro k26 hf H locs hP hS ls hl
                unfold mo_hopAt_J111 at hf
                refine lv_istore (lv' := [(8, .int k26), (0, .ref (ad 500)), (1, .int x1), (2, .int x2), (3, .int x3), (4, .int v1), (5, .int y11), (6, .int y20)]) hx hb dX16_hopAt_111 hl (by decide) rfl (fun ls hl => ?_)
                refine lv_iload hx hb dX16_hopAt_113 (lv_at hl 0 rfl) ?_
                have J165 : ∀ (a27 : Nat → Int32), mo_hopAt_J165 y20 a27 = some o62 → ∀ (H : Heap) (locs : List Loc), PM D G ad (sgM_hopAt σ a9 a27) H → va_S A s.heap H locs → ∀ (ls : Array Slot), lv_has ls 9 [(0, .ref (ad 500)), (1, .int x1), (2, .int x2), (3, .int x3), (4, .int v1), (5, .int y11), (6, .int y20)] → W p l e rmM_hopAt s m args below meth c0 H locs 0 0 Q (F0 m 165 ls []) := by
                  intro a27 hf H locs hP hS ls hl
                  unfold mo_hopAt_J165 at hf
                  obtain ⟨v28, hv28, hf⟩ := bdP hf
                  refine lv_iinc (v := v28) (lv' := [(6, .int v28), (0, .ref (ad 500)), (1, .int x1), (2, .int x2), (3, .int x3), (4, .int v1), (5, .int y11)]) hx hb dX16_hopAt_165 hl (k := 6) rfl (Option.some.inj hv28) (by decide) rfl (fun ls hl => ?_)
                  refine lv_goto (tgt := 62) hx hb dX16_hopAt_168 (by decide) ?_
                  exact ih62 _ (Option.some.inj hf).symm H locs hP hS ls (lv_sub hl [1, 2, 3, 4, 5, 6, 0] rfl) KE62_0
                refine lv_if_lt (tgt := 165) hx hb dX16_hopAt_115 (by decide) (fun c29 => ?_) (fun c29 => ?_)
                · have hf := ifT c29 hf
                  exact J165 a21 hf H locs hP hS ls (lv_sub hl [1, 2, 3, 4, 5, 6, 7] rfl)
                · have hf := ifF c29 hf
                  refine lv_aload_n hx hb dX16_hopAt_118 rfl (lv_at hl 1 rfl) ?_
                  refine gM_29 E hK hP dX16_hopAt_119 ?_
                  refine lv_iload hx hb dX16_hopAt_122 (lv_at hl 6 rfl) ?_
                  obtain ⟨v30, hv30, hf⟩ := bdP hf
                  refine p_iald hx hb hK hP dM_629 sgM_hopAt_raI629 hv30 dX16_hopAt_124 ?_
                  refine lv_ldcw hx hb hown (hts _ q2022) dX16_hopAt_125 ?_
                  refine lv_icmp_ge (tgt := 165) hx hb dX16_hopAt_128 (by decide) (fun c31 => ?_) (fun c31 => ?_)
                  · have hf := ifT c31 hf
                    exact J165 a21 hf H locs hP hS ls (lv_sub hl [1, 2, 3, 4, 5, 6, 7] rfl)
                  · have hf := ifF c31 hf
                    refine lv_aload_n hx hb dX16_hopAt_131 rfl (lv_at hl 1 rfl) ?_
                    refine gM_29 E hK hP dX16_hopAt_132 ?_
                    refine lv_iload hx hb dX16_hopAt_135 (lv_at hl 7 rfl) ?_
                    obtain ⟨v32, hv32, hf⟩ := bdP hf
                    refine p_iald hx hb hK hP dM_629 sgM_hopAt_raI629 hv32 dX16_hopAt_137 ?_
                    refine lv_iload hx hb dX16_hopAt_138 (lv_at hl 0 rfl) ?_
                    refine lv_iadd hx hb dX16_hopAt_140 ?_
                    refine lv_aload_n hx hb dX16_hopAt_141 rfl (lv_at hl 1 rfl) ?_
                    refine gM_29 E hK hP dX16_hopAt_142 ?_
                    refine lv_iload hx hb dX16_hopAt_145 (lv_at hl 6 rfl) ?_
                    obtain ⟨v33, hv33, hf⟩ := bdP hf
                    refine p_iald hx hb hK hP dM_629 sgM_hopAt_raI629 hv33 dX16_hopAt_147 ?_
                    refine lv_icmp_ne (tgt := 165) hx hb dX16_hopAt_148 (by decide) (fun c34 => ?_) (fun c34 => ?_)
                    · have hf := ifF c34 hf
                      exact J165 a21 hf H locs hP hS ls (lv_sub hl [1, 2, 3, 4, 5, 6, 7] rfl)
                    · have hf := ifT c34 hf
                      refine lv_aload_n hx hb dX16_hopAt_151 rfl (lv_at hl 1 rfl) ?_
                      refine gM_40 E hK hP dX16_hopAt_152 ?_
                      refine lv_iload hx hb dX16_hopAt_155 (lv_at hl 5 rfl) ?_
                      refine lv_iload hx hb dX16_hopAt_157 (lv_at hl 6 rfl) ?_
                      refine lv_iadd hx hb dX16_hopAt_159 ?_
                      refine lv_iload hx hb dX16_hopAt_160 (lv_at hl 7 rfl) ?_
                      refine lv_iconst hx hb dX16_hopAt_162 ic_2 ?_
                      refine lv_iadd hx hb dX16_hopAt_163 ?_
                      obtain ⟨a35, ha35, hf⟩ := bdP hf
                      refine p_iast hx hb hK hP hS (hA _ (PA_c dM_640)) dM_640 sgM_hopAt_raI640 ha35 sgM_hopAt_aI640 dX16_hopAt_164 (fun H locs hP hS => ?_)
                      exact J165 a35 hf H locs hP hS ls (lv_sub hl [1, 2, 3, 4, 5, 6, 7] rfl)
              refine lv_if_ge (tgt := 103) hx hb dX16_hopAt_96 (by decide) (fun c36 => ?_) (fun c36 => ?_)
              · have hf := ifT c36 hf
                refine lv_aload_n hx hb dX16_hopAt_103 rfl (lv_at hl 1 rfl) ?_
                refine lv_iload hx hb dX16_hopAt_104 (lv_at hl 0 rfl) ?_
                refine lv_iload_n hx hb dX16_hopAt_106 rfl (lv_at hl 2 rfl) ?_
                refine lv_iload_n hx hb dX16_hopAt_107 rfl (lv_at hl 3 rfl) ?_
                obtain ⟨v37, u38, hf⟩ := bdP hf
                refine cM_hoursAs E hK hP hS hA sgM_hopAt_raI615 sgM_hopAt_raI624 u38 ⟨Nat.le_of_ble_eq_true rfl, Nat.le_of_ble_eq_true rfl⟩ ⟨Nat.zero_le _, Nat.zero_le _⟩ hl.1 (Nat.le_of_ble_eq_true rfl) dX16_hopAt_108 (fun H locs hP hS => ?_)
                exact J111 v37 hf H locs hP hS ls (lv_sub hl [1, 2, 3, 4, 5, 6, 7] rfl)
              · have hf := ifF c36 hf
                refine lv_iconst hx hb dX16_hopAt_99 ic_m1 ?_
                refine lv_goto (tgt := 111) hx hb dX16_hopAt_100 (by decide) ?_
                exact J111 (-1) hf H locs hP hS ls (lv_sub hl [1, 2, 3, 4, 5, 6, 7] rfl)
        obtain ⟨ex62, hlp62, hf⟩ := bdP hf
        refine LP62 (v19, a16) ex62 hlp62 H locs hP hS ls (lv_sub hl [1, 2, 3, 4, 5, 6, 0] rfl) ?_
        intro a39 hex62 H locs hP hS ls hl
        subst ex62
        obtain ⟨v40, hv40, hf⟩ := bdP hf
        refine lv_iinc (v := v40) (lv' := [(5, .int v40), (0, .ref (ad 500)), (1, .int x1), (2, .int x2), (3, .int x3), (4, .int v1)]) hx hb dX16_hopAt_171 hl (k := 5) rfl (Option.some.inj hv40) (by decide) rfl (fun ls hl => ?_)
        refine lv_goto (tgt := 34) hx hb dX16_hopAt_174 (by decide) ?_
        exact ih34 _ (Option.some.inj hf).symm H locs hP hS ls (lv_sub hl [1, 2, 3, 4, 5, 0] rfl) KE34_0
    obtain ⟨ex34, hlp34, hf⟩ := bdP hf
    refine LP34 (0, (σ.2.2.1 640)) ex34 hlp34 H locs hP hS ls (lv_sub hl [2, 3, 4, 5, 1, 0] rfl) ?_
    intro a41 hex34 H locs hP hS ls hl
    subst ex34
    exact J177 a9 a41 hf H locs hP hS ls (lv_sub hl [0, 1, 2] rfl)
theorem kM_hopAt (l : Launch) (D : va_G) (G : Nat → ClassId) (ad : Nat → Nat) (σ : Sto) {x1 : Int32} {x2 : Int32} {x3 : Int32} {r_ : Int32} {w_aI629 : Nat → Int32} {w_aI640 : Nat → Int32} (hf : mo_hopAt (σ.2.2.1 611) (σ.2.2.1 615) (σ.2.2.1 621) (σ.2.2.1 624) (σ.2.2.1 629) (σ.2.2.1 640) x1 x2 x3 = some (r_, w_aI629, w_aI640)) : CtI l D clsA G dscM ad yX16_hopAt (ws_ yX16_hopAt cX16_hopAt 9 (Option.some Jvm.ClassFile.FieldType.int)) rmM_hopAt [.ref (ad 500), .int x1, .int x2, .int x3] σ r_ (sgM_hopAt σ w_aI629 w_aI640) :=
  p_ctI (by decide +kernel) (Nat.le_of_ble_eq_true rfl) (fun p e s m below meth c0 ls A E hP hK hA hS hl => wkM_hopAt E hK hA hf rfl hP hS hl)
theorem cM_hopAt (E : EN p s m args meth c0 RX16 cc nL ret) (hK : KK D clsA G s) (hP : PM D G ad σ H) (hS : va_S A s.heap H locs) (hA : ∀ q, PA dscM ad s.heap.size q → A q) {x1 : Int32} {x2 : Int32} {x3 : Int32} {r_ : Int32} {w_aI629 : Nat → Int32} {w_aI640 : Nat → Int32} {a_many : Nat → Int32} (e_aI611 : σ.2.2.1 611 = a_many) {a_road : Nat → Int32} (e_aI615 : σ.2.2.1 615 = a_road) {a_between : Nat → Int32} (e_aI621 : σ.2.2.1 621 = a_between) {a_three : Nat → Int32} (e_aI624 : σ.2.2.1 624 = a_three) {a_far : Nat → Int32} (e_aI629 : σ.2.2.1 629 = a_far) {a_hop : Nat → Int32} (e_aI640 : σ.2.2.1 640 = a_hop) (hu : mo_hopAt a_many a_road a_between a_three a_far a_hop x1 x2 x3 = some (r_, w_aI629, w_aI640)) (hR : rmM_hopAt.frames + 1 ≤ R.frames ∧ 8 + (9 + 11) + rmM_hopAt.locals ≤ R.locals) (hcs : cells ≤ R.cells ∧ slots ≤ R.slots) (hsz : ls.size = nL) (hW : (rest.map fun v => v.category).sum ≤ 8) (hdg : decode cc pc = .ok (.invokevirtual 395, 3)) (kk : ∀ (H1 : Heap) (locs1 : List Loc), PM D G ad (aI (aI σ 629 w_aI629) 640 w_aI640) H1 → va_S A s.heap H1 locs1 → W p l e R s m args below meth c0 H1 locs1 cells slots Q (F0 m (pc + 3) ls (.int r_ :: rest))) : W p l e R s m args below meth c0 H locs cells slots Q (F0 m pc ls (.int x3 :: .int x2 :: .int x1 :: .ref (ad 500) :: rest)) := by
  subst e_aI611
  subst e_aI615
  subst e_aI621
  subst e_aI624
  subst e_aI629
  subst e_aI640
  exact p_callI (As := [.int x1, .int x2, .int x3]) (rest := rest) E.1 hK hP hS hA (kM_hopAt l D G ad σ hu) (cwV 3 E.1.2.2.2.2 (lw_V q2132 q2134 qs109 q142 q2135) rfl rfl rfl (by decide +kernel) hR) dM_500 rfl rfl rfl hsz rfl hW hdg hcs kk
/-! actOf(III)I -/
def sgM_actOf (σ : Sto) (w0 : Nat → Int32) (w1 : Nat → Int32) : Sto := aI (aI σ 629 w0) 640 w1
theorem sgM_actOf_self (σ : Sto) : sgM_actOf σ (σ.2.2.1 629) (σ.2.2.1 640) = σ := by
  unfold sgM_actOf
  simp only [zI_self, zL_self, aI_self, aL_self]
theorem sgM_actOf_aI629 {σ : Sto} {w0 : Nat → Int32} {w1 : Nat → Int32} {g : Nat → Int32} : aI (sgM_actOf σ w0 w1) 629 g = sgM_actOf σ g w1 := (aI_comm _ (by decide) _ _).trans (congrArg (fun z => aI z 640 w1) (aI_aI _ 629 _ _))
theorem sgM_actOf_aI640 {σ : Sto} {w0 : Nat → Int32} {w1 : Nat → Int32} {g : Nat → Int32} : aI (sgM_actOf σ w0 w1) 640 g = sgM_actOf σ w0 g := aI_aI _ 640 _ _
theorem sgM_actOf_rzI541 {σ : Sto} {w0 : Nat → Int32} {w1 : Nat → Int32} : (sgM_actOf σ w0 w1).1 541 = σ.1 541 := rfl
theorem sgM_actOf_rzI543 {σ : Sto} {w0 : Nat → Int32} {w1 : Nat → Int32} : (sgM_actOf σ w0 w1).1 543 = σ.1 543 := rfl
theorem sgM_actOf_raI611 {σ : Sto} {w0 : Nat → Int32} {w1 : Nat → Int32} : (sgM_actOf σ w0 w1).2.2.1 611 = σ.2.2.1 611 := rfl
theorem sgM_actOf_raI615 {σ : Sto} {w0 : Nat → Int32} {w1 : Nat → Int32} : (sgM_actOf σ w0 w1).2.2.1 615 = σ.2.2.1 615 := rfl
theorem sgM_actOf_raI621 {σ : Sto} {w0 : Nat → Int32} {w1 : Nat → Int32} : (sgM_actOf σ w0 w1).2.2.1 621 = σ.2.2.1 621 := rfl
theorem sgM_actOf_raI624 {σ : Sto} {w0 : Nat → Int32} {w1 : Nat → Int32} : (sgM_actOf σ w0 w1).2.2.1 624 = σ.2.2.1 624 := rfl
theorem sgM_actOf_raI629 {σ : Sto} {w0 : Nat → Int32} {w1 : Nat → Int32} : (sgM_actOf σ w0 w1).2.2.1 629 = w0 := rfl
theorem sgM_actOf_raI631 {σ : Sto} {w0 : Nat → Int32} {w1 : Nat → Int32} : (sgM_actOf σ w0 w1).2.2.1 631 = σ.2.2.1 631 := rfl
theorem sgM_actOf_raI640 {σ : Sto} {w0 : Nat → Int32} {w1 : Nat → Int32} : (sgM_actOf σ w0 w1).2.2.1 640 = w1 := rfl
theorem sgM_actOf_raI642 {σ : Sto} {w0 : Nat → Int32} {w1 : Nat → Int32} : (sgM_actOf σ w0 w1).2.2.1 642 = σ.2.2.1 642 := rfl
theorem sgM_actOf_raI644 {σ : Sto} {w0 : Nat → Int32} {w1 : Nat → Int32} : (sgM_actOf σ w0 w1).2.2.1 644 = σ.2.2.1 644 := rfl
abbrev rmM_actOf : Room := { frames := 5, cells := 0, slots := 0, locals := 124 }
set_option maxHeartbeats 4000000 in
theorem wkM_actOf {x1 : Int32} {x2 : Int32} {x3 : Int32} {r_ : Int32} {w_aI629 : Nat → Int32} {w_aI640 : Nat → Int32} (E : EN p s m args meth c0 RX16 cX16_actOf 4 (Option.some Jvm.ClassFile.FieldType.int)) (hK : KK D clsA G s) (hA : ∀ q, PA dscM ad s.heap.size q → A q) (hf : mo_actOf (σ.1 541) (σ.1 543) (σ.2.2.1 611) (σ.2.2.1 615) (σ.2.2.1 621) (σ.2.2.1 624) (σ.2.2.1 629) (σ.2.2.1 631) (σ.2.2.1 640) (σ.2.2.1 642) (σ.2.2.1 644) x1 x2 x3 = some (r_, w_aI629, w_aI640)) (hQ : Q = MQ below (va_Qi (fun x (_ : Unit) => x = r_) (fun _ t => PM D G ad (sgM_actOf σ w_aI629 w_aI640) t.heap ∧ KK D clsA G t) A) args s 0 0 A) (hP : PM D G ad σ H) (hS : va_S A s.heap H locs) (hl : lv_has ls 4 [(0, .ref (ad 500)), (1, .int x1), (2, .int x2), (3, .int x3)]) : W p l e rmM_actOf s m args below meth c0 H locs 0 0 Q (F0 m 0 ls []) := by
  obtain ⟨⟨hx, hb, hml, hown, hts⟩, hr, hlk⟩ := id E
  have hP := hP.to (sgM_actOf_self σ).symm
  unfold mo_actOf at hf
  refine lv_iload_n hx hb dX16_actOf_0 rfl (lv_at hl 1 rfl) ?_
  refine lv_iconst hx hb dX16_actOf_1 ic_3 ?_
  refine lv_icmp_ge (tgt := 23) hx hb dX16_actOf_2 (by decide) (fun c1 => ?_) (fun c1 => ?_)
  · have hf := ifT c1 hf
    refine lv_iload_n hx hb dX16_actOf_23 rfl (lv_at hl 1 rfl) ?_
    refine lv_bipush hx hb dX16_actOf_24 bp_6 ?_
    refine lv_icmp_ne (tgt := 36) hx hb dX16_actOf_26 (by decide) (fun c2 => ?_) (fun c2 => ?_)
    · have hf := ifF c2 hf
      refine lv_aload_n hx hb dX16_actOf_36 rfl (lv_at hl 0 rfl) ?_
      refine gM_11 E hK hP dX16_actOf_37 ?_
      refine lv_bipush hx hb dX16_actOf_40 bp_7 ?_
      obtain ⟨v3, hv3, hf⟩ := bdP hf
      refine p_iald hx hb hK hP dM_611 sgM_actOf_raI611 hv3 dX16_actOf_42 ?_
      refine lv_iconst hx hb dX16_actOf_43 ic_m1 ?_
      refine lv_icmp_ne (tgt := 50) hx hb dX16_actOf_44 (by decide) (fun c4 => ?_) (fun c4 => ?_)
      · have hf := ifF c4 hf
        refine lv_aload_n hx hb dX16_actOf_50 rfl (lv_at hl 0 rfl) ?_
        refine lv_iload_n hx hb dX16_actOf_51 rfl (lv_at hl 3 rfl) ?_
        refine lv_iload_n hx hb dX16_actOf_52 rfl (lv_at hl 1 rfl) ?_
        refine lv_iconst hx hb dX16_actOf_53 ic_3 ?_
        have J76 : ∀ (k5 : Int32) (k6 : Int32), mo_actOf_J76 (σ.2.2.1 611) (σ.2.2.1 615) (σ.2.2.1 621) (σ.2.2.1 624) (σ.2.2.1 629) (σ.2.2.1 640) x2 k5 k6 = some (r_, w_aI629, w_aI640) → ∀ (H : Heap) (locs : List Loc), PM D G ad (sgM_actOf σ (σ.2.2.1 629) (σ.2.2.1 640)) H → va_S A s.heap H locs → ∀ (ls : Array Slot), lv_has ls 4 [(2, .int x2)] → W p l e rmM_actOf s m args below meth c0 H locs 0 0 Q (F0 m 76 ls [.int k5, .int k6, .ref (ad 500)]) := by
          intro k5 k6 hf H locs hP hS ls hl
          unfold mo_actOf_J76 at hf
          refine lv_iload_n hx hb dX16_actOf_76 rfl (lv_at hl 0 rfl) ?_
          obtain ⟨⟨v7, a8, a9⟩, u10, hf⟩ := bdP hf
          dsimp only at hf
          refine cM_hopAt E hK hP hS hA sgM_actOf_raI611 sgM_actOf_raI615 sgM_actOf_raI621 sgM_actOf_raI624 sgM_actOf_raI629 sgM_actOf_raI640 u10 ⟨Nat.le_of_ble_eq_true rfl, Nat.le_of_ble_eq_true rfl⟩ ⟨Nat.zero_le _, Nat.zero_le _⟩ hl.1 (Nat.le_of_ble_eq_true rfl) dX16_actOf_77 (fun H locs hP hS => ?_)
          rw [sgM_actOf_aI629, sgM_actOf_aI640] at hP
          cases hf
          rw [hQ]; exact p_iret hx hb hr hlk hK hP hS dX16_actOf_80
        refine lv_icmp_ne (tgt := 62) hx hb dX16_actOf_54 (by decide) (fun c11 => ?_) (fun c11 => ?_)
        · have hf := ifF c11 hf
          refine lv_iload_n hx hb dX16_actOf_62 rfl (lv_at hl 1 rfl) ?_
          refine lv_iconst hx hb dX16_actOf_63 ic_4 ?_
          refine lv_icmp_ne (tgt := 71) hx hb dX16_actOf_64 (by decide) (fun c12 => ?_) (fun c12 => ?_)
          · have hf := ifF c12 hf
            refine lv_aload_n hx hb dX16_actOf_71 rfl (lv_at hl 0 rfl) ?_
            refine lv_iload_n hx hb dX16_actOf_72 rfl (lv_at hl 3 rfl) ?_
            obtain ⟨v13, u14, hf⟩ := bdP hf
            refine cM_firstUnknown E hK hP hS hA sgM_actOf_rzI541 sgM_actOf_raI624 sgM_actOf_raI642 u14 ⟨Nat.le_of_ble_eq_true rfl, Nat.le_of_ble_eq_true rfl⟩ ⟨Nat.zero_le _, Nat.zero_le _⟩ hl.1 (Nat.le_of_ble_eq_true rfl) dX16_actOf_73 (fun H locs hP hS => ?_)
            exact J76 v13 x3 hf H locs hP hS ls (lv_sub hl [2] rfl)
          · have hf := ifT c12 hf
            refine lv_iconst hx hb dX16_actOf_67 ic_m1 ?_
            refine lv_goto (tgt := 76) hx hb dX16_actOf_68 (by decide) ?_
            exact J76 (-1) x3 hf H locs hP hS ls (lv_sub hl [2] rfl)
        · have hf := ifT c11 hf
          refine lv_bipush hx hb dX16_actOf_57 bp_6 ?_
          refine lv_goto (tgt := 76) hx hb dX16_actOf_59 (by decide) ?_
          exact J76 6 x3 hf H locs hP hS ls (lv_sub hl [2] rfl)
      · have hf := ifT c4 hf
        refine lv_bipush hx hb dX16_actOf_47 bp_m2 ?_
        cases hf
        rw [hQ]; exact p_iret hx hb hr hlk hK hP hS dX16_actOf_49
    · have hf := ifT c2 hf
      refine lv_aload_n hx hb dX16_actOf_29 rfl (lv_at hl 0 rfl) ?_
      refine lv_iload_n hx hb dX16_actOf_30 rfl (lv_at hl 2 rfl) ?_
      refine lv_iload_n hx hb dX16_actOf_31 rfl (lv_at hl 3 rfl) ?_
      obtain ⟨v15, u16, hf⟩ := bdP hf
      refine cM_byHand E hK hP hS hA sgM_actOf_rzI543 sgM_actOf_raI615 sgM_actOf_raI621 sgM_actOf_raI624 sgM_actOf_raI644 u16 ⟨Nat.le_of_ble_eq_true rfl, Nat.le_of_ble_eq_true rfl⟩ ⟨Nat.zero_le _, Nat.zero_le _⟩ hl.1 (Nat.le_of_ble_eq_true rfl) dX16_actOf_32 (fun H locs hP hS => ?_)
      cases hf
      rw [hQ]; exact p_iret hx hb hr hlk hK hP hS dX16_actOf_35
  · have hf := ifF c1 hf
    refine lv_aload_n hx hb dX16_actOf_5 rfl (lv_at hl 0 rfl) ?_
    refine gM_31 E hK hP dX16_actOf_6 ?_
    refine lv_sipush hx hb dX16_actOf_9 sp_7290 ?_
    refine lv_iload_n hx hb dX16_actOf_12 rfl (lv_at hl 1 rfl) ?_
    refine lv_imul hx hb dX16_actOf_13 ?_
    refine lv_bipush hx hb dX16_actOf_14 bp_10 ?_
    refine lv_iload_n hx hb dX16_actOf_16 rfl (lv_at hl 3 rfl) ?_
    refine lv_imul hx hb dX16_actOf_17 ?_
    refine lv_iadd hx hb dX16_actOf_18 ?_
    refine lv_iload_n hx hb dX16_actOf_19 rfl (lv_at hl 2 rfl) ?_
    refine lv_iadd hx hb dX16_actOf_20 ?_
    obtain ⟨v17, hv17, hf⟩ := bdP hf
    refine p_iald hx hb hK hP dM_631 sgM_actOf_raI631 hv17 dX16_actOf_21 ?_
    cases hf
    rw [hQ]; exact p_iret hx hb hr hlk hK hP hS dX16_actOf_22
theorem kM_actOf (l : Launch) (D : va_G) (G : Nat → ClassId) (ad : Nat → Nat) (σ : Sto) {x1 : Int32} {x2 : Int32} {x3 : Int32} {r_ : Int32} {w_aI629 : Nat → Int32} {w_aI640 : Nat → Int32} (hf : mo_actOf (σ.1 541) (σ.1 543) (σ.2.2.1 611) (σ.2.2.1 615) (σ.2.2.1 621) (σ.2.2.1 624) (σ.2.2.1 629) (σ.2.2.1 631) (σ.2.2.1 640) (σ.2.2.1 642) (σ.2.2.1 644) x1 x2 x3 = some (r_, w_aI629, w_aI640)) : CtI l D clsA G dscM ad yX16_actOf (ws_ yX16_actOf cX16_actOf 4 (Option.some Jvm.ClassFile.FieldType.int)) rmM_actOf [.ref (ad 500), .int x1, .int x2, .int x3] σ r_ (sgM_actOf σ w_aI629 w_aI640) :=
  p_ctI (by decide +kernel) (Nat.le_of_ble_eq_true rfl) (fun p e s m below meth c0 ls A E hP hK hA hS hl => wkM_actOf E hK hA hf rfl hP hS hl)
theorem cM_actOf (E : EN p s m args meth c0 RX16 cc nL ret) (hK : KK D clsA G s) (hP : PM D G ad σ H) (hS : va_S A s.heap H locs) (hA : ∀ q, PA dscM ad s.heap.size q → A q) {x1 : Int32} {x2 : Int32} {x3 : Int32} {r_ : Int32} {w_aI629 : Nat → Int32} {w_aI640 : Nat → Int32} {z_rowSize : Int32} (e_zI541 : σ.1 541 = z_rowSize) {z_rules : Int32} (e_zI543 : σ.1 543 = z_rules) {a_many : Nat → Int32} (e_aI611 : σ.2.2.1 611 = a_many) {a_road : Nat → Int32} (e_aI615 : σ.2.2.1 615 = a_road) {a_between : Nat → Int32} (e_aI621 : σ.2.2.1 621 = a_between) {a_three : Nat → Int32} (e_aI624 : σ.2.2.1 624 = a_three) {a_far : Nat → Int32} (e_aI629 : σ.2.2.1 629 = a_far) {a_act : Nat → Int32} (e_aI631 : σ.2.2.1 631 = a_act) {a_hop : Nat → Int32} (e_aI640 : σ.2.2.1 640 = a_hop) {a_row : Nat → Int32} (e_aI642 : σ.2.2.1 642 = a_row) {a_rule : Nat → Int32} (e_aI644 : σ.2.2.1 644 = a_rule) (hu : mo_actOf z_rowSize z_rules a_many a_road a_between a_three a_far a_act a_hop a_row a_rule x1 x2 x3 = some (r_, w_aI629, w_aI640)) (hR : rmM_actOf.frames + 1 ≤ R.frames ∧ 8 + (4 + 11) + rmM_actOf.locals ≤ R.locals) (hcs : cells ≤ R.cells ∧ slots ≤ R.slots) (hsz : ls.size = nL) (hW : (rest.map fun v => v.category).sum ≤ 8) (hdg : decode cc pc = .ok (.invokevirtual 404, 3)) (kk : ∀ (H1 : Heap) (locs1 : List Loc), PM D G ad (aI (aI σ 629 w_aI629) 640 w_aI640) H1 → va_S A s.heap H1 locs1 → W p l e R s m args below meth c0 H1 locs1 cells slots Q (F0 m (pc + 3) ls (.int r_ :: rest))) : W p l e R s m args below meth c0 H locs cells slots Q (F0 m pc ls (.int x3 :: .int x2 :: .int x1 :: .ref (ad 500) :: rest)) := by
  subst e_zI541
  subst e_zI543
  subst e_aI611
  subst e_aI615
  subst e_aI621
  subst e_aI624
  subst e_aI629
  subst e_aI631
  subst e_aI640
  subst e_aI642
  subst e_aI644
  exact p_callI (As := [.int x1, .int x2, .int x3]) (rest := rest) E.1 hK hP hS hA (kM_actOf l D G ad σ hu) (cwV 3 E.1.2.2.2.2 (lw_V q2120 q2122 qs106 q142 q2123) rfl rfl rfl (by decide +kernel) hR) dM_500 rfl rfl rfl hsz rfl hW hdg hcs kk
/-! learns(III)I -/
abbrev rmM_learns : Room := { frames := 1, cells := 0, slots := 0, locals := 22 }
set_option maxHeartbeats 4000000 in
theorem wkM_learns {x1 : Int32} {x2 : Int32} {x3 : Int32} {r_ : Int32} (E : EN p s m args meth c0 RX16 cX16_learns 6 (Option.some Jvm.ClassFile.FieldType.int)) (hK : KK D clsA G s) (hA : ∀ q, PA dscM ad s.heap.size q → A q) (hf : mo_learns (σ.2.2.1 611) (σ.2.2.1 620) (σ.2.2.1 624) x1 x2 x3 = some r_) (hQ : Q = MQ below (va_Qi (fun x (_ : Unit) => x = r_) (fun _ t => PM D G ad σ t.heap ∧ KK D clsA G t) A) args s 0 0 A) (hP : PM D G ad σ H) (hS : va_S A s.heap H locs) (hl : lv_has ls 6 [(0, .ref (ad 500)), (1, .int x1), (2, .int x2), (3, .int x3)]) : W p l e rmM_learns s m args below meth c0 H locs 0 0 Q (F0 m 0 ls []) := by
  obtain ⟨⟨hx, hb, hml, hown, hts⟩, hr, hlk⟩ := id E
  unfold mo_learns at hf
  refine lv_iload_n hx hb dX16_learns_0 rfl (lv_at hl 2 rfl) ?_
  refine lv_istore (lv' := [(4, .int x2), (0, .ref (ad 500)), (1, .int x1), (2, .int x2), (3, .int x3)]) hx hb dX16_learns_1 hl (by decide) rfl (fun ls hl => ?_)
  refine lv_iconst hx hb dX16_learns_3 ic_0 ?_
  refine lv_istore (lv' := [(5, .int 0), (4, .int x2), (0, .ref (ad 500)), (1, .int x1), (2, .int x2), (3, .int x3)]) hx hb dX16_learns_4 hl (by decide) rfl (fun ls hl => ?_)
  have LP6 : ∀ (st6 : Int32 × Int32) (ex6 : (Int32)), loop (mo_learns_L6 (σ.2.2.1 611) (σ.2.2.1 620) (σ.2.2.1 624) x1 x3) st6 = some ex6 → ∀ (H : Heap) (locs : List Loc), PM D G ad σ H → va_S A s.heap H locs → ∀ (ls : Array Slot), lv_has ls 6 [(0, .ref (ad 500)), (1, .int x1), (3, .int x3), (4, .int (st6.1)), (5, .int (st6.2))] → (∀ (y15 : Int32), ex6 = y15 → ∀ (H : Heap) (locs : List Loc), PM D G ad σ H → va_S A s.heap H locs → ∀ (ls : Array Slot), lv_has ls 6 [(4, .int y15)] → W p l e rmM_learns s m args below meth c0 H locs 0 0 Q (F0 m 68 ls [])) → W p l e rmM_learns s m args below meth c0 H locs 0 0 Q (F0 m 6 ls []) := by
    refine loop_P (fun st6 ex6 o6 hf ih6 hx6 => ?_)
    obtain ⟨y1, y2⟩ := st6
    intro H locs (hP : PM D G ad σ H) hS ls (hl : lv_has ls 6 [(0, .ref (ad 500)), (1, .int x1), (3, .int x3), (4, .int y1), (5, .int y2)]) KE6_0
    dsimp only [mo_learns_L6] at hf
    refine lv_iload hx hb dX16_learns_6 (lv_at hl 4 rfl) ?_
    refine lv_aload_n hx hb dX16_learns_8 rfl (lv_at hl 0 rfl) ?_
    obtain ⟨v3, u4, hf⟩ := bdP hf
    refine cM_doubts E hK hP hS hA rfl u4 ⟨Nat.le_of_ble_eq_true rfl, Nat.le_of_ble_eq_true rfl⟩ ⟨Nat.zero_le _, Nat.zero_le _⟩ hl.1 (Nat.le_of_ble_eq_true rfl) dX16_learns_9 (fun H locs hP hS => ?_)
    refine lv_icmp_ge (tgt := 68) hx hb dX16_learns_12 (by decide) (fun c5 => ?_) (fun c5 => ?_)
    · have hf := ifT c5 hf
      exact KE6_0 _ (hx6 _ (Option.some.inj hf).symm).symm H locs hP hS ls (lv_sub hl [3] rfl)
    · have hf := ifF c5 hf
      refine lv_aload_n hx hb dX16_learns_15 rfl (lv_at hl 0 rfl) ?_
      refine gM_20 E hK hP dX16_learns_16 ?_
      refine lv_iload_n hx hb dX16_learns_19 rfl (lv_at hl 1 rfl) ?_
      obtain ⟨v6, hv6, hf⟩ := bdP hf
      refine p_iald hx hb hK hP dM_620 rfl hv6 dX16_learns_20 ?_
      refine lv_iload hx hb dX16_learns_21 (lv_at hl 4 rfl) ?_
      refine lv_ishr hx hb dX16_learns_23 ?_
      refine lv_iconst hx hb dX16_learns_24 ic_1 ?_
      refine lv_iand hx hb dX16_learns_25 ?_
      refine lv_iconst hx hb dX16_learns_26 ic_1 ?_
      have J62 : ∀ (y7 : Int32), mo_learns_J62 y2 y7 = some o6 → ∀ (H : Heap) (locs : List Loc), PM D G ad σ H → va_S A s.heap H locs → ∀ (ls : Array Slot), lv_has ls 6 [(0, .ref (ad 500)), (1, .int x1), (3, .int x3), (4, .int y7), (5, .int y2)] → W p l e rmM_learns s m args below meth c0 H locs 0 0 Q (F0 m 62 ls []) := by
        intro y7 hf H locs hP hS ls hl
        unfold mo_learns_J62 at hf
        obtain ⟨v8, hv8, hf⟩ := bdP hf
        refine lv_iinc (v := v8) (lv' := [(5, .int v8), (0, .ref (ad 500)), (1, .int x1), (3, .int x3), (4, .int y7)]) hx hb dX16_learns_62 hl (k := 4) rfl (Option.some.inj hv8) (by decide) rfl (fun ls hl => ?_)
        refine lv_goto (tgt := 6) hx hb dX16_learns_65 (by decide) ?_
        exact ih6 _ (Option.some.inj hf).symm H locs hP hS ls (lv_sub hl [1, 2, 3, 4, 0] rfl) KE6_0
      refine lv_icmp_ne (tgt := 62) hx hb dX16_learns_27 (by decide) (fun c9 => ?_) (fun c9 => ?_)
      · have hf := ifF c9 hf
        exact J62 y1 hf H locs hP hS ls (lv_sub hl [0, 1, 2, 3, 4] rfl)
      · have hf := ifT c9 hf
        refine lv_aload_n hx hb dX16_learns_30 rfl (lv_at hl 0 rfl) ?_
        refine lv_iload hx hb dX16_learns_31 (lv_at hl 3 rfl) ?_
        refine lv_iload hx hb dX16_learns_33 (lv_at hl 4 rfl) ?_
        obtain ⟨v10, u11, hf⟩ := bdP hf
        refine cM_digit E hK hP hS hA rfl u11 ⟨Nat.le_of_ble_eq_true rfl, Nat.le_of_ble_eq_true rfl⟩ ⟨Nat.zero_le _, Nat.zero_le _⟩ hl.1 (Nat.le_of_ble_eq_true rfl) dX16_learns_35 (fun H locs hP hS => ?_)
        refine lv_if_ne (tgt := 62) hx hb dX16_learns_38 (by decide) (fun c12 => ?_) (fun c12 => ?_)
        · have hf := ifF c12 hf
          exact J62 y1 hf H locs hP hS ls (lv_sub hl [0, 1, 2, 3, 4] rfl)
        · have hf := ifT c12 hf
          refine lv_iload hx hb dX16_learns_41 (lv_at hl 3 rfl) ?_
          refine lv_iload_n hx hb dX16_learns_43 rfl (lv_at hl 2 rfl) ?_
          refine lv_iload hx hb dX16_learns_44 (lv_at hl 4 rfl) ?_
          refine lv_ishr hx hb dX16_learns_46 ?_
          refine lv_iconst hx hb dX16_learns_47 ic_1 ?_
          refine lv_iand hx hb dX16_learns_48 ?_
          refine lv_iconst hx hb dX16_learns_49 ic_1 ?_
          refine lv_iadd hx hb dX16_learns_50 ?_
          refine lv_aload_n hx hb dX16_learns_51 rfl (lv_at hl 0 rfl) ?_
          refine gM_24 E hK hP dX16_learns_52 ?_
          refine lv_iload hx hb dX16_learns_55 (lv_at hl 4 rfl) ?_
          obtain ⟨v13, hv13, hf⟩ := bdP hf
          refine p_iald hx hb hK hP dM_624 rfl hv13 dX16_learns_57 ?_
          refine lv_imul hx hb dX16_learns_58 ?_
          refine lv_iadd hx hb dX16_learns_59 ?_
          obtain ⟨v14, hv14, hf⟩ := bdP hf
          refine nm_i (Option.some.inj hv14) ?_
          refine lv_istore (lv' := [(4, .int v14), (0, .ref (ad 500)), (1, .int x1), (3, .int x3), (5, .int y2)]) hx hb dX16_learns_60 hl (by decide) rfl (fun ls hl => ?_)
          exact J62 v14 hf H locs hP hS ls (lv_sub hl [1, 2, 3, 0, 4] rfl)
  obtain ⟨ex6, hlp6, hf⟩ := bdP hf
  refine LP6 (x2, 0) ex6 hlp6 H locs hP hS ls (lv_sub hl [2, 3, 5, 1, 0] rfl) ?_
  intro y15 hex6 H locs hP hS ls hl
  subst ex6
  refine lv_iload hx hb dX16_learns_68 (lv_at hl 0 rfl) ?_
  cases hf
  rw [hQ]; exact p_iret hx hb hr hlk hK hP hS dX16_learns_70
theorem kM_learns (l : Launch) (D : va_G) (G : Nat → ClassId) (ad : Nat → Nat) (σ : Sto) {x1 : Int32} {x2 : Int32} {x3 : Int32} {r_ : Int32} (hf : mo_learns (σ.2.2.1 611) (σ.2.2.1 620) (σ.2.2.1 624) x1 x2 x3 = some r_) : CtI l D clsA G dscM ad yX16_learns (ws_ yX16_learns cX16_learns 6 (Option.some Jvm.ClassFile.FieldType.int)) rmM_learns [.ref (ad 500), .int x1, .int x2, .int x3] σ r_ σ :=
  p_ctI (by decide +kernel) (Nat.le_of_ble_eq_true rfl) (fun p e s m below meth c0 ls A E hP hK hA hS hl => wkM_learns E hK hA hf rfl hP hS hl)
theorem cM_learns (E : EN p s m args meth c0 RX16 cc nL ret) (hK : KK D clsA G s) (hP : PM D G ad σ H) (hS : va_S A s.heap H locs) (hA : ∀ q, PA dscM ad s.heap.size q → A q) {x1 : Int32} {x2 : Int32} {x3 : Int32} {r_ : Int32} {a_many : Nat → Int32} (e_aI611 : σ.2.2.1 611 = a_many) {a_seen : Nat → Int32} (e_aI620 : σ.2.2.1 620 = a_seen) {a_three : Nat → Int32} (e_aI624 : σ.2.2.1 624 = a_three) (hu : mo_learns a_many a_seen a_three x1 x2 x3 = some r_) (hR : rmM_learns.frames + 1 ≤ R.frames ∧ 8 + (6 + 11) + rmM_learns.locals ≤ R.locals) (hcs : cells ≤ R.cells ∧ slots ≤ R.slots) (hsz : ls.size = nL) (hW : (rest.map fun v => v.category).sum ≤ 8) (hdg : decode cc pc = .ok (.invokevirtual 410, 3)) (kk : ∀ (H1 : Heap) (locs1 : List Loc), PM D G ad σ H1 → va_S A s.heap H1 locs1 → W p l e R s m args below meth c0 H1 locs1 cells slots Q (F0 m (pc + 3) ls (.int r_ :: rest))) : W p l e R s m args below meth c0 H locs cells slots Q (F0 m pc ls (.int x3 :: .int x2 :: .int x1 :: .ref (ad 500) :: rest)) := by
  subst e_aI611
  subst e_aI620
  subst e_aI624
  exact p_callI (As := [.int x1, .int x2, .int x3]) (rest := rest) E.1 hK hP hS hA (kM_learns l D G ad σ hu) (cwV 3 E.1.2.2.2.2 (lw_V q2112 q2114 qs104 q142 q2115) rfl rfl rfl (by decide +kernel) hR) dM_500 rfl rfl rfl hsz rfl hW hdg hcs kk
/-! moves(II)Z -/
def sgM_moves (σ : Sto) (w0 : Int32) (w1 : Int32) (w2 : Int64) (w3 : Nat → Int32) (w4 : Nat → Int32) : Sto := aI (aI (zL (zI (zI σ 545 w0) 546 w1) 547 w2) 629 w3) 640 w4
theorem sgM_moves_self (σ : Sto) : sgM_moves σ (σ.1 545) (σ.1 546) (σ.2.1 547) (σ.2.2.1 629) (σ.2.2.1 640) = σ := by
  unfold sgM_moves
  simp only [zI_self, zL_self, aI_self, aL_self]
theorem sgM_moves_zI545 {σ : Sto} {w0 : Int32} {w1 : Int32} {w2 : Int64} {w3 : Nat → Int32} {w4 : Nat → Int32} {g : Int32} : zI (sgM_moves σ w0 w1 w2 w3 w4) 545 g = sgM_moves σ g w1 w2 w3 w4 := (cm_zI_aI _ _ _ _ _).trans (congrArg (fun z => aI z 640 w4) ((cm_zI_aI _ _ _ _ _).trans (congrArg (fun z => aI z 629 w3) ((cm_zI_zL _ _ _ _ _).trans (congrArg (fun z => zL z 547 w2) ((zI_comm _ (by decide) _ _).trans (congrArg (fun z => zI z 546 w1) (zI_zI _ 545 _ _))))))))
theorem sgM_moves_zI546 {σ : Sto} {w0 : Int32} {w1 : Int32} {w2 : Int64} {w3 : Nat → Int32} {w4 : Nat → Int32} {g : Int32} : zI (sgM_moves σ w0 w1 w2 w3 w4) 546 g = sgM_moves σ w0 g w2 w3 w4 := (cm_zI_aI _ _ _ _ _).trans (congrArg (fun z => aI z 640 w4) ((cm_zI_aI _ _ _ _ _).trans (congrArg (fun z => aI z 629 w3) ((cm_zI_zL _ _ _ _ _).trans (congrArg (fun z => zL z 547 w2) (zI_zI _ 546 _ _))))))
theorem sgM_moves_zL547 {σ : Sto} {w0 : Int32} {w1 : Int32} {w2 : Int64} {w3 : Nat → Int32} {w4 : Nat → Int32} {g : Int64} : zL (sgM_moves σ w0 w1 w2 w3 w4) 547 g = sgM_moves σ w0 w1 g w3 w4 := (cm_zL_aI _ _ _ _ _).trans (congrArg (fun z => aI z 640 w4) ((cm_zL_aI _ _ _ _ _).trans (congrArg (fun z => aI z 629 w3) (zL_zL _ 547 _ _))))
theorem sgM_moves_aI629 {σ : Sto} {w0 : Int32} {w1 : Int32} {w2 : Int64} {w3 : Nat → Int32} {w4 : Nat → Int32} {g : Nat → Int32} : aI (sgM_moves σ w0 w1 w2 w3 w4) 629 g = sgM_moves σ w0 w1 w2 g w4 := (aI_comm _ (by decide) _ _).trans (congrArg (fun z => aI z 640 w4) (aI_aI _ 629 _ _))
theorem sgM_moves_aI640 {σ : Sto} {w0 : Int32} {w1 : Int32} {w2 : Int64} {w3 : Nat → Int32} {w4 : Nat → Int32} {g : Nat → Int32} : aI (sgM_moves σ w0 w1 w2 w3 w4) 640 g = sgM_moves σ w0 w1 w2 w3 g := aI_aI _ 640 _ _
theorem sgM_moves_rzI541 {σ : Sto} {w0 : Int32} {w1 : Int32} {w2 : Int64} {w3 : Nat → Int32} {w4 : Nat → Int32} : (sgM_moves σ w0 w1 w2 w3 w4).1 541 = σ.1 541 := rfl
theorem sgM_moves_rzI543 {σ : Sto} {w0 : Int32} {w1 : Int32} {w2 : Int64} {w3 : Nat → Int32} {w4 : Nat → Int32} : (sgM_moves σ w0 w1 w2 w3 w4).1 543 = σ.1 543 := rfl
theorem sgM_moves_rzI545 {σ : Sto} {w0 : Int32} {w1 : Int32} {w2 : Int64} {w3 : Nat → Int32} {w4 : Nat → Int32} : (sgM_moves σ w0 w1 w2 w3 w4).1 545 = w0 := rfl
theorem sgM_moves_rzI546 {σ : Sto} {w0 : Int32} {w1 : Int32} {w2 : Int64} {w3 : Nat → Int32} {w4 : Nat → Int32} : (sgM_moves σ w0 w1 w2 w3 w4).1 546 = w1 := rfl
theorem sgM_moves_rzL547 {σ : Sto} {w0 : Int32} {w1 : Int32} {w2 : Int64} {w3 : Nat → Int32} {w4 : Nat → Int32} : (sgM_moves σ w0 w1 w2 w3 w4).2.1 547 = w2 := rfl
theorem sgM_moves_raI611 {σ : Sto} {w0 : Int32} {w1 : Int32} {w2 : Int64} {w3 : Nat → Int32} {w4 : Nat → Int32} : (sgM_moves σ w0 w1 w2 w3 w4).2.2.1 611 = σ.2.2.1 611 := rfl
theorem sgM_moves_raI615 {σ : Sto} {w0 : Int32} {w1 : Int32} {w2 : Int64} {w3 : Nat → Int32} {w4 : Nat → Int32} : (sgM_moves σ w0 w1 w2 w3 w4).2.2.1 615 = σ.2.2.1 615 := rfl
theorem sgM_moves_raI618 {σ : Sto} {w0 : Int32} {w1 : Int32} {w2 : Int64} {w3 : Nat → Int32} {w4 : Nat → Int32} : (sgM_moves σ w0 w1 w2 w3 w4).2.2.1 618 = σ.2.2.1 618 := rfl
theorem sgM_moves_raI620 {σ : Sto} {w0 : Int32} {w1 : Int32} {w2 : Int64} {w3 : Nat → Int32} {w4 : Nat → Int32} : (sgM_moves σ w0 w1 w2 w3 w4).2.2.1 620 = σ.2.2.1 620 := rfl
theorem sgM_moves_raI621 {σ : Sto} {w0 : Int32} {w1 : Int32} {w2 : Int64} {w3 : Nat → Int32} {w4 : Nat → Int32} : (sgM_moves σ w0 w1 w2 w3 w4).2.2.1 621 = σ.2.2.1 621 := rfl
theorem sgM_moves_raI624 {σ : Sto} {w0 : Int32} {w1 : Int32} {w2 : Int64} {w3 : Nat → Int32} {w4 : Nat → Int32} : (sgM_moves σ w0 w1 w2 w3 w4).2.2.1 624 = σ.2.2.1 624 := rfl
theorem sgM_moves_raI629 {σ : Sto} {w0 : Int32} {w1 : Int32} {w2 : Int64} {w3 : Nat → Int32} {w4 : Nat → Int32} : (sgM_moves σ w0 w1 w2 w3 w4).2.2.1 629 = w3 := rfl
theorem sgM_moves_raI631 {σ : Sto} {w0 : Int32} {w1 : Int32} {w2 : Int64} {w3 : Nat → Int32} {w4 : Nat → Int32} : (sgM_moves σ w0 w1 w2 w3 w4).2.2.1 631 = σ.2.2.1 631 := rfl
theorem sgM_moves_raI640 {σ : Sto} {w0 : Int32} {w1 : Int32} {w2 : Int64} {w3 : Nat → Int32} {w4 : Nat → Int32} : (sgM_moves σ w0 w1 w2 w3 w4).2.2.1 640 = w4 := rfl
theorem sgM_moves_raI642 {σ : Sto} {w0 : Int32} {w1 : Int32} {w2 : Int64} {w3 : Nat → Int32} {w4 : Nat → Int32} : (sgM_moves σ w0 w1 w2 w3 w4).2.2.1 642 = σ.2.2.1 642 := rfl
theorem sgM_moves_raI644 {σ : Sto} {w0 : Int32} {w1 : Int32} {w2 : Int64} {w3 : Nat → Int32} {w4 : Nat → Int32} : (sgM_moves σ w0 w1 w2 w3 w4).2.2.1 644 = σ.2.2.1 644 := rfl
abbrev rmM_moves : Room := { frames := 6, cells := 0, slots := 0, locals := 147 }
set_option maxHeartbeats 4000000 in
theorem wkM_moves {x1 : Int32} {x2 : Int32} {r_ : Int32} {w_zI545 : Int32} {w_zI546 : Int32} {w_zL547 : Int64} {w_aI629 : Nat → Int32} {w_aI640 : Nat → Int32} (E : EN p s m args meth c0 RX16 cX16_moves 5 (Option.some Jvm.ClassFile.FieldType.boolean)) (hK : KK D clsA G s) (hA : ∀ q, PA dscM ad s.heap.size q → A q) (hf : mo_moves (σ.1 541) (σ.1 543) (σ.1 545) (σ.1 546) (σ.2.1 547) (σ.2.2.1 611) (σ.2.2.1 615) (σ.2.2.1 618) (σ.2.2.1 620) (σ.2.2.1 621) (σ.2.2.1 624) (σ.2.2.1 629) (σ.2.2.1 631) (σ.2.2.1 640) (σ.2.2.1 642) (σ.2.2.1 644) x1 x2 = some (r_, w_zI545, w_zI546, w_zL547, w_aI629, w_aI640)) (hQ : Q = MQ below (va_Qi (fun x (_ : Unit) => x = r_) (fun _ t => PM D G ad (sgM_moves σ w_zI545 w_zI546 w_zL547 w_aI629 w_aI640) t.heap ∧ KK D clsA G t) A) args s 0 0 A) (hP : PM D G ad σ H) (hS : va_S A s.heap H locs) (hl : lv_has ls 5 [(0, .ref (ad 500)), (1, .int x1), (2, .int x2)]) : W p l e rmM_moves s m args below meth c0 H locs 0 0 Q (F0 m 0 ls []) := by
  obtain ⟨⟨hx, hb, hml, hown, hts⟩, hr, hlk⟩ := id E
  have hP := hP.to (sgM_moves_self σ).symm
  unfold mo_moves at hf
  refine lv_aload_n hx hb dX16_moves_0 rfl (lv_at hl 0 rfl) ?_
  refine lv_iload_n hx hb dX16_moves_1 rfl (lv_at hl 1 rfl) ?_
  refine lv_aload_n hx hb dX16_moves_2 rfl (lv_at hl 0 rfl) ?_
  refine gM_45 (v := (σ.1 545)) E hK hP sgM_moves_rzI545 dX16_moves_3 ?_
  refine lv_aload_n hx hb dX16_moves_6 rfl (lv_at hl 0 rfl) ?_
  refine gM_46 (v := (σ.1 546)) E hK hP sgM_moves_rzI546 dX16_moves_7 ?_
  obtain ⟨⟨v1, a2, a3⟩, u4, hf⟩ := bdP hf
  dsimp only at hf
  refine cM_actOf E hK hP hS hA sgM_moves_rzI541 sgM_moves_rzI543 sgM_moves_raI611 sgM_moves_raI615 sgM_moves_raI621 sgM_moves_raI624 sgM_moves_raI629 sgM_moves_raI631 sgM_moves_raI640 sgM_moves_raI642 sgM_moves_raI644 u4 ⟨Nat.le_of_ble_eq_true rfl, Nat.le_of_ble_eq_true rfl⟩ ⟨Nat.zero_le _, Nat.zero_le _⟩ hl.1 (Nat.le_of_ble_eq_true rfl) dX16_moves_10 (fun H locs hP hS => ?_)
  rw [sgM_moves_aI629, sgM_moves_aI640] at hP
  refine lv_istore_n (lv' := [(3, .int v1), (0, .ref (ad 500)), (1, .int x1), (2, .int x2)]) hx hb dX16_moves_13 rfl hl (by decide) rfl (fun ls hl => ?_)
  refine lv_iload_n hx hb dX16_moves_14 rfl (lv_at hl 0 rfl) ?_
  refine lv_if_ge (tgt := 20) hx hb dX16_moves_15 (by decide) (fun c5 => ?_) (fun c5 => ?_)
  · have hf := ifT c5 hf
    refine lv_iload_n hx hb dX16_moves_20 rfl (lv_at hl 0 rfl) ?_
    refine lv_bipush hx hb dX16_moves_21 bp_100 ?_
    refine lv_icmp_lt (tgt := 92) hx hb dX16_moves_23 (by decide) (fun c6 => ?_) (fun c6 => ?_)
    · have hf := ifT c6 hf
      refine lv_aload_n hx hb dX16_moves_92 rfl (lv_at hl 1 rfl) ?_
      refine lv_dup hx hb dX16_moves_93 rfl ?_
      refine gM_47 (v := (σ.2.1 547)) E hK hP sgM_moves_rzL547 dX16_moves_94 ?_
      refine lv_aload_n hx hb dX16_moves_97 rfl (lv_at hl 1 rfl) ?_
      refine lv_aload_n hx hb dX16_moves_98 rfl (lv_at hl 1 rfl) ?_
      refine gM_21 E hK hP dX16_moves_99 ?_
      refine lv_bipush hx hb dX16_moves_102 bp_10 ?_
      refine lv_aload_n hx hb dX16_moves_104 rfl (lv_at hl 1 rfl) ?_
      refine gM_45 (v := (σ.1 545)) E hK hP sgM_moves_rzI545 dX16_moves_105 ?_
      refine lv_imul hx hb dX16_moves_108 ?_
      refine lv_iload_n hx hb dX16_moves_109 rfl (lv_at hl 0 rfl) ?_
      refine lv_iadd hx hb dX16_moves_110 ?_
      obtain ⟨v7, hv7, hf⟩ := bdP hf
      refine p_iald hx hb hK hP dM_621 sgM_moves_raI621 hv7 dX16_moves_111 ?_
      refine lv_aload_n hx hb dX16_moves_112 rfl (lv_at hl 1 rfl) ?_
      refine gM_46 (v := (σ.1 546)) E hK hP sgM_moves_rzI546 dX16_moves_113 ?_
      obtain ⟨v8, u9, hf⟩ := bdP hf
      refine cM_hoursOf E hK hP hS hA sgM_moves_raI615 sgM_moves_raI624 u9 ⟨Nat.le_of_ble_eq_true rfl, Nat.le_of_ble_eq_true rfl⟩ ⟨Nat.zero_le _, Nat.zero_le _⟩ hl.1 (Nat.le_of_ble_eq_true rfl) dX16_moves_116 (fun H locs hP hS => ?_)
      refine lv_i2l hx hb dX16_moves_119 rfl ?_
      refine lv_ladd hx hb dX16_moves_120 ?_
      obtain ⟨v10, hv10, hf⟩ := bdP hf
      refine nm_l (Option.some.inj hv10) ?_
      refine uM_47 E hK hP hS (hA _ (PA_c dM_500)) sgM_moves_zL547 dX16_moves_121 (fun H locs hP hS => ?_)
      refine lv_aload_n hx hb dX16_moves_124 rfl (lv_at hl 1 rfl) ?_
      refine lv_iload_n hx hb dX16_moves_125 rfl (lv_at hl 0 rfl) ?_
      refine uM_45 E hK hP hS (hA _ (PA_c dM_500)) sgM_moves_zI545 dX16_moves_126 (fun H locs hP hS => ?_)
      refine lv_aload_n hx hb dX16_moves_129 rfl (lv_at hl 1 rfl) ?_
      refine lv_aload_n hx hb dX16_moves_130 rfl (lv_at hl 1 rfl) ?_
      refine lv_iload_n hx hb dX16_moves_131 rfl (lv_at hl 0 rfl) ?_
      refine lv_aload_n hx hb dX16_moves_132 rfl (lv_at hl 1 rfl) ?_
      refine gM_46 (v := (σ.1 546)) E hK hP sgM_moves_rzI546 dX16_moves_133 ?_
      refine lv_iload_n hx hb dX16_moves_136 rfl (lv_at hl 3 rfl) ?_
      obtain ⟨v11, u12, hf⟩ := bdP hf
      refine cM_learns E hK hP hS hA sgM_moves_raI611 sgM_moves_raI620 sgM_moves_raI624 u12 ⟨Nat.le_of_ble_eq_true rfl, Nat.le_of_ble_eq_true rfl⟩ ⟨Nat.zero_le _, Nat.zero_le _⟩ hl.1 (Nat.le_of_ble_eq_true rfl) dX16_moves_137 (fun H locs hP hS => ?_)
      refine uM_46 E hK hP hS (hA _ (PA_c dM_500)) sgM_moves_zI546 dX16_moves_140 (fun H locs hP hS => ?_)
      refine lv_iconst hx hb dX16_moves_143 ic_1 ?_
      cases hf
      rw [hQ]; exact p_zret hx hb hr hlk hK hP hS rfl dX16_moves_144
    · have hf := ifF c6 hf
      refine lv_aload_n hx hb dX16_moves_26 rfl (lv_at hl 1 rfl) ?_
      refine gM_18 E hK hP dX16_moves_27 ?_
      refine lv_iconst hx hb dX16_moves_30 ic_3 ?_
      refine lv_iload_n hx hb dX16_moves_31 rfl (lv_at hl 0 rfl) ?_
      refine lv_bipush hx hb dX16_moves_32 bp_100 ?_
      refine lv_isub hx hb dX16_moves_34 ?_
      refine lv_imul hx hb dX16_moves_35 ?_
      refine lv_iconst hx hb dX16_moves_36 ic_1 ?_
      refine lv_iadd hx hb dX16_moves_37 ?_
      obtain ⟨v13, hv13, hf⟩ := bdP hf
      refine p_iald hx hb hK hP dM_618 sgM_moves_raI618 hv13 dX16_moves_38 ?_
      refine lv_istore (lv' := [(4, .int v13), (3, .int v1), (0, .ref (ad 500)), (1, .int x1), (2, .int x2)]) hx hb dX16_moves_39 hl (by decide) rfl (fun ls hl => ?_)
      refine lv_aload_n hx hb dX16_moves_41 rfl (lv_at hl 2 rfl) ?_
      refine lv_dup hx hb dX16_moves_42 rfl ?_
      refine gM_47 (v := (σ.2.1 547)) E hK hP sgM_moves_rzL547 dX16_moves_43 ?_
      refine lv_aload_n hx hb dX16_moves_46 rfl (lv_at hl 2 rfl) ?_
      refine gM_18 E hK hP dX16_moves_47 ?_
      refine lv_iconst hx hb dX16_moves_50 ic_3 ?_
      refine lv_iload_n hx hb dX16_moves_51 rfl (lv_at hl 1 rfl) ?_
      refine lv_bipush hx hb dX16_moves_52 bp_100 ?_
      refine lv_isub hx hb dX16_moves_54 ?_
      refine lv_imul hx hb dX16_moves_55 ?_
      refine lv_iconst hx hb dX16_moves_56 ic_2 ?_
      refine lv_iadd hx hb dX16_moves_57 ?_
      obtain ⟨v14, hv14, hf⟩ := bdP hf
      refine p_iald hx hb hK hP dM_618 sgM_moves_raI618 hv14 dX16_moves_58 ?_
      refine lv_i2l hx hb dX16_moves_59 rfl ?_
      refine lv_ladd hx hb dX16_moves_60 ?_
      obtain ⟨v15, hv15, hf⟩ := bdP hf
      refine nm_l (Option.some.inj hv15) ?_
      refine uM_47 E hK hP hS (hA _ (PA_c dM_500)) sgM_moves_zL547 dX16_moves_61 (fun H locs hP hS => ?_)
      refine lv_aload_n hx hb dX16_moves_64 rfl (lv_at hl 2 rfl) ?_
      refine lv_dup hx hb dX16_moves_65 rfl ?_
      refine gM_46 (v := (σ.1 546)) E hK hP sgM_moves_rzI546 dX16_moves_66 ?_
      refine lv_iload_n hx hb dX16_moves_69 rfl (lv_at hl 4 rfl) ?_
      refine lv_iload hx hb dX16_moves_70 (lv_at hl 0 rfl) ?_
      refine lv_ishr hx hb dX16_moves_72 ?_
      refine lv_iconst hx hb dX16_moves_73 ic_1 ?_
      refine lv_iand hx hb dX16_moves_74 ?_
      refine lv_iconst hx hb dX16_moves_75 ic_1 ?_
      refine lv_iadd hx hb dX16_moves_76 ?_
      refine lv_aload_n hx hb dX16_moves_77 rfl (lv_at hl 2 rfl) ?_
      refine gM_24 E hK hP dX16_moves_78 ?_
      refine lv_iload hx hb dX16_moves_81 (lv_at hl 0 rfl) ?_
      obtain ⟨v16, hv16, hf⟩ := bdP hf
      refine p_iald hx hb hK hP dM_624 sgM_moves_raI624 hv16 dX16_moves_83 ?_
      refine lv_imul hx hb dX16_moves_84 ?_
      refine lv_iadd hx hb dX16_moves_85 ?_
      obtain ⟨v17, hv17, hf⟩ := bdP hf
      refine nm_i (Option.some.inj hv17) ?_
      refine uM_46 E hK hP hS (hA _ (PA_c dM_500)) sgM_moves_zI546 dX16_moves_86 (fun H locs hP hS => ?_)
      refine lv_goto (tgt := 143) hx hb dX16_moves_89 (by decide) ?_
      refine lv_iconst hx hb dX16_moves_143 ic_1 ?_
      cases hf
      rw [hQ]; exact p_zret hx hb hr hlk hK hP hS rfl dX16_moves_144
  · have hf := ifF c5 hf
    refine lv_iconst hx hb dX16_moves_18 ic_0 ?_
    cases hf
    rw [hQ]; exact p_zret hx hb hr hlk hK hP hS rfl dX16_moves_19
theorem kM_moves (l : Launch) (D : va_G) (G : Nat → ClassId) (ad : Nat → Nat) (σ : Sto) {x1 : Int32} {x2 : Int32} {r_ : Int32} {w_zI545 : Int32} {w_zI546 : Int32} {w_zL547 : Int64} {w_aI629 : Nat → Int32} {w_aI640 : Nat → Int32} (hf : mo_moves (σ.1 541) (σ.1 543) (σ.1 545) (σ.1 546) (σ.2.1 547) (σ.2.2.1 611) (σ.2.2.1 615) (σ.2.2.1 618) (σ.2.2.1 620) (σ.2.2.1 621) (σ.2.2.1 624) (σ.2.2.1 629) (σ.2.2.1 631) (σ.2.2.1 640) (σ.2.2.1 642) (σ.2.2.1 644) x1 x2 = some (r_, w_zI545, w_zI546, w_zL547, w_aI629, w_aI640)) : CtI l D clsA G dscM ad yX16_moves (ws_ yX16_moves cX16_moves 5 (Option.some Jvm.ClassFile.FieldType.boolean)) rmM_moves [.ref (ad 500), .int x1, .int x2] σ r_ (sgM_moves σ w_zI545 w_zI546 w_zL547 w_aI629 w_aI640) :=
  p_ctI (by decide +kernel) (Nat.le_of_ble_eq_true rfl) (fun p e s m below meth c0 ls A E hP hK hA hS hl => wkM_moves E hK hA hf rfl hP hS hl)
theorem cM_moves (E : EN p s m args meth c0 RX16 cc nL ret) (hK : KK D clsA G s) (hP : PM D G ad σ H) (hS : va_S A s.heap H locs) (hA : ∀ q, PA dscM ad s.heap.size q → A q) {x1 : Int32} {x2 : Int32} {r_ : Int32} {w_zI545 : Int32} {w_zI546 : Int32} {w_zL547 : Int64} {w_aI629 : Nat → Int32} {w_aI640 : Nat → Int32} {z_rowSize : Int32} (e_zI541 : σ.1 541 = z_rowSize) {z_rules : Int32} (e_zI543 : σ.1 543 = z_rules) {z_atPlace : Int32} (e_zI545 : σ.1 545 = z_atPlace) {z_atKnown : Int32} (e_zI546 : σ.1 546 = z_atKnown) {z_atHours : Int64} (e_zL547 : σ.2.1 547 = z_atHours) {a_many : Nat → Int32} (e_aI611 : σ.2.2.1 611 = a_many) {a_road : Nat → Int32} (e_aI615 : σ.2.2.1 615 = a_road) {a_word : Nat → Int32} (e_aI618 : σ.2.2.1 618 = a_word) {a_seen : Nat → Int32} (e_aI620 : σ.2.2.1 620 = a_seen) {a_between : Nat → Int32} (e_aI621 : σ.2.2.1 621 = a_between) {a_three : Nat → Int32} (e_aI624 : σ.2.2.1 624 = a_three) {a_far : Nat → Int32} (e_aI629 : σ.2.2.1 629 = a_far) {a_act : Nat → Int32} (e_aI631 : σ.2.2.1 631 = a_act) {a_hop : Nat → Int32} (e_aI640 : σ.2.2.1 640 = a_hop) {a_row : Nat → Int32} (e_aI642 : σ.2.2.1 642 = a_row) {a_rule : Nat → Int32} (e_aI644 : σ.2.2.1 644 = a_rule) (hu : mo_moves z_rowSize z_rules z_atPlace z_atKnown z_atHours a_many a_road a_word a_seen a_between a_three a_far a_act a_hop a_row a_rule x1 x2 = some (r_, w_zI545, w_zI546, w_zL547, w_aI629, w_aI640)) (hR : rmM_moves.frames + 1 ≤ R.frames ∧ 8 + (5 + 11) + rmM_moves.locals ≤ R.locals) (hcs : cells ≤ R.cells ∧ slots ≤ R.slots) (hsz : ls.size = nL) (hW : (rest.map fun v => v.category).sum ≤ 8) (hdg : decode cc pc = .ok (.invokevirtual 417, 3)) (kk : ∀ (H1 : Heap) (locs1 : List Loc), PM D G ad (aI (aI (zL (zI (zI σ 545 w_zI545) 546 w_zI546) 547 w_zL547) 629 w_aI629) 640 w_aI640) H1 → va_S A s.heap H1 locs1 → W p l e R s m args below meth c0 H1 locs1 cells slots Q (F0 m (pc + 3) ls (.int r_ :: rest))) : W p l e R s m args below meth c0 H locs cells slots Q (F0 m pc ls (.int x2 :: .int x1 :: .ref (ad 500) :: rest)) := by
  subst e_zI541
  subst e_zI543
  subst e_zI545
  subst e_zI546
  subst e_zL547
  subst e_aI611
  subst e_aI615
  subst e_aI618
  subst e_aI620
  subst e_aI621
  subst e_aI624
  subst e_aI629
  subst e_aI631
  subst e_aI640
  subst e_aI642
  subst e_aI644
  exact p_callI (As := [.int x1, .int x2]) (rest := rest) E.1 hK hP hS hA (kM_moves l D G ad σ hu) (cwV 2 E.1.2.2.2.2 (lw_V q2116 q2118 qs105 q142 q2119) rfl rfl rfl (by decide +kernel) hR) dM_500 rfl rfl rfl hsz rfl hW hdg hcs kk
/-! setsOut(I)V -/
def sgM_setsOut (σ : Sto) (w0 : Int32) (w1 : Int32) (w2 : Int64) : Sto := zL (zI (zI σ 545 w0) 546 w1) 547 w2
theorem sgM_setsOut_self (σ : Sto) : sgM_setsOut σ (σ.1 545) (σ.1 546) (σ.2.1 547) = σ := by
  unfold sgM_setsOut
  simp only [zI_self, zL_self, aI_self, aL_self]
theorem sgM_setsOut_zI545 {σ : Sto} {w0 : Int32} {w1 : Int32} {w2 : Int64} {g : Int32} : zI (sgM_setsOut σ w0 w1 w2) 545 g = sgM_setsOut σ g w1 w2 := (cm_zI_zL _ _ _ _ _).trans (congrArg (fun z => zL z 547 w2) ((zI_comm _ (by decide) _ _).trans (congrArg (fun z => zI z 546 w1) (zI_zI _ 545 _ _))))
theorem sgM_setsOut_zI546 {σ : Sto} {w0 : Int32} {w1 : Int32} {w2 : Int64} {g : Int32} : zI (sgM_setsOut σ w0 w1 w2) 546 g = sgM_setsOut σ w0 g w2 := (cm_zI_zL _ _ _ _ _).trans (congrArg (fun z => zL z 547 w2) (zI_zI _ 546 _ _))
theorem sgM_setsOut_zL547 {σ : Sto} {w0 : Int32} {w1 : Int32} {w2 : Int64} {g : Int64} : zL (sgM_setsOut σ w0 w1 w2) 547 g = sgM_setsOut σ w0 w1 g := zL_zL _ 547 _ _
theorem sgM_setsOut_rzI545 {σ : Sto} {w0 : Int32} {w1 : Int32} {w2 : Int64} : (sgM_setsOut σ w0 w1 w2).1 545 = w0 := rfl
theorem sgM_setsOut_rzI546 {σ : Sto} {w0 : Int32} {w1 : Int32} {w2 : Int64} : (sgM_setsOut σ w0 w1 w2).1 546 = w1 := rfl
theorem sgM_setsOut_rzL547 {σ : Sto} {w0 : Int32} {w1 : Int32} {w2 : Int64} : (sgM_setsOut σ w0 w1 w2).2.1 547 = w2 := rfl
theorem sgM_setsOut_raI611 {σ : Sto} {w0 : Int32} {w1 : Int32} {w2 : Int64} : (sgM_setsOut σ w0 w1 w2).2.2.1 611 = σ.2.2.1 611 := rfl
theorem sgM_setsOut_raI620 {σ : Sto} {w0 : Int32} {w1 : Int32} {w2 : Int64} : (sgM_setsOut σ w0 w1 w2).2.2.1 620 = σ.2.2.1 620 := rfl
theorem sgM_setsOut_raI624 {σ : Sto} {w0 : Int32} {w1 : Int32} {w2 : Int64} : (sgM_setsOut σ w0 w1 w2).2.2.1 624 = σ.2.2.1 624 := rfl
abbrev rmM_setsOut : Room := { frames := 2, cells := 0, slots := 0, locals := 47 }
set_option maxHeartbeats 4000000 in
theorem wkM_setsOut {x1 : Int32} {w_zI545 : Int32} {w_zI546 : Int32} {w_zL547 : Int64} (E : EN p s m args meth c0 RX16 cX16_setsOut 2 (Option.none : Option Jvm.ClassFile.FieldType)) (hK : KK D clsA G s) (hA : ∀ q, PA dscM ad s.heap.size q → A q) (hf : mo_setsOut (σ.1 545) (σ.1 546) (σ.2.1 547) (σ.2.2.1 611) (σ.2.2.1 620) (σ.2.2.1 624) x1 = some (w_zI545, w_zI546, w_zL547)) (hQ : Q = MQ below (va_Qv (fun (_ : Unit) => True) (fun _ t => PM D G ad (sgM_setsOut σ w_zI545 w_zI546 w_zL547) t.heap ∧ KK D clsA G t) A) args s 0 0 A) (hP : PM D G ad σ H) (hS : va_S A s.heap H locs) (hl : lv_has ls 2 [(0, .ref (ad 500)), (1, .int x1)]) : W p l e rmM_setsOut s m args below meth c0 H locs 0 0 Q (F0 m 0 ls []) := by
  obtain ⟨⟨hx, hb, hml, hown, hts⟩, hr, hlk⟩ := id E
  have hP := hP.to (sgM_setsOut_self σ).symm
  unfold mo_setsOut at hf
  refine lv_aload_n hx hb dX16_setsOut_0 rfl (lv_at hl 0 rfl) ?_
  refine lv_aload_n hx hb dX16_setsOut_1 rfl (lv_at hl 0 rfl) ?_
  refine gM_11 E hK hP dX16_setsOut_2 ?_
  refine lv_bipush hx hb dX16_setsOut_5 bp_6 ?_
  obtain ⟨v1, hv1, hf⟩ := bdP hf
  refine p_iald hx hb hK hP dM_611 sgM_setsOut_raI611 hv1 dX16_setsOut_7 ?_
  refine uM_45 E hK hP hS (hA _ (PA_c dM_500)) sgM_setsOut_zI545 dX16_setsOut_8 (fun H locs hP hS => ?_)
  refine lv_aload_n hx hb dX16_setsOut_11 rfl (lv_at hl 0 rfl) ?_
  refine lv_aload_n hx hb dX16_setsOut_12 rfl (lv_at hl 0 rfl) ?_
  refine lv_aload_n hx hb dX16_setsOut_13 rfl (lv_at hl 0 rfl) ?_
  refine gM_45 (v := v1) E hK hP sgM_setsOut_rzI545 dX16_setsOut_14 ?_
  refine lv_iconst hx hb dX16_setsOut_17 ic_0 ?_
  refine lv_iload_n hx hb dX16_setsOut_18 rfl (lv_at hl 1 rfl) ?_
  obtain ⟨v2, u3, hf⟩ := bdP hf
  refine cM_learns E hK hP hS hA sgM_setsOut_raI611 sgM_setsOut_raI620 sgM_setsOut_raI624 u3 ⟨Nat.le_of_ble_eq_true rfl, Nat.le_of_ble_eq_true rfl⟩ ⟨Nat.zero_le _, Nat.zero_le _⟩ hl.1 (Nat.le_of_ble_eq_true rfl) dX16_setsOut_19 (fun H locs hP hS => ?_)
  refine uM_46 E hK hP hS (hA _ (PA_c dM_500)) sgM_setsOut_zI546 dX16_setsOut_22 (fun H locs hP hS => ?_)
  refine lv_aload_n hx hb dX16_setsOut_25 rfl (lv_at hl 0 rfl) ?_
  refine lv_lconst hx hb dX16_setsOut_26 lc_0 ?_
  refine uM_47 E hK hP hS (hA _ (PA_c dM_500)) sgM_setsOut_zL547 dX16_setsOut_27 (fun H locs hP hS => ?_)
  cases hf
  rw [hQ]; exact p_vret hx hb hr hlk hK hP hS dX16_setsOut_30
theorem kM_setsOut (l : Launch) (D : va_G) (G : Nat → ClassId) (ad : Nat → Nat) (σ : Sto) {x1 : Int32} {w_zI545 : Int32} {w_zI546 : Int32} {w_zL547 : Int64} (hf : mo_setsOut (σ.1 545) (σ.1 546) (σ.2.1 547) (σ.2.2.1 611) (σ.2.2.1 620) (σ.2.2.1 624) x1 = some (w_zI545, w_zI546, w_zL547)) : CtV l D clsA G dscM ad yX16_setsOut (ws_ yX16_setsOut cX16_setsOut 2 (Option.none : Option Jvm.ClassFile.FieldType)) rmM_setsOut [.ref (ad 500), .int x1] σ (sgM_setsOut σ w_zI545 w_zI546 w_zL547) :=
  p_ctV (by decide +kernel) (Nat.le_of_ble_eq_true rfl) (fun p e s m below meth c0 ls A E hP hK hA hS hl => wkM_setsOut E hK hA hf rfl hP hS hl)
theorem cM_setsOut (E : EN p s m args meth c0 RX16 cc nL ret) (hK : KK D clsA G s) (hP : PM D G ad σ H) (hS : va_S A s.heap H locs) (hA : ∀ q, PA dscM ad s.heap.size q → A q) {x1 : Int32} {w_zI545 : Int32} {w_zI546 : Int32} {w_zL547 : Int64} {z_atPlace : Int32} (e_zI545 : σ.1 545 = z_atPlace) {z_atKnown : Int32} (e_zI546 : σ.1 546 = z_atKnown) {z_atHours : Int64} (e_zL547 : σ.2.1 547 = z_atHours) {a_many : Nat → Int32} (e_aI611 : σ.2.2.1 611 = a_many) {a_seen : Nat → Int32} (e_aI620 : σ.2.2.1 620 = a_seen) {a_three : Nat → Int32} (e_aI624 : σ.2.2.1 624 = a_three) (hu : mo_setsOut z_atPlace z_atKnown z_atHours a_many a_seen a_three x1 = some (w_zI545, w_zI546, w_zL547)) (hR : rmM_setsOut.frames + 1 ≤ R.frames ∧ 8 + (2 + 11) + rmM_setsOut.locals ≤ R.locals) (hcs : cells ≤ R.cells ∧ slots ≤ R.slots) (hsz : ls.size = nL) (hW : (rest.map fun v => v.category).sum ≤ 8) (hdg : decode cc pc = .ok (.invokevirtual 413, 3)) (kk : ∀ (H1 : Heap) (locs1 : List Loc), PM D G ad (zL (zI (zI σ 545 w_zI545) 546 w_zI546) 547 w_zL547) H1 → va_S A s.heap H1 locs1 → W p l e R s m args below meth c0 H1 locs1 cells slots Q (F0 m (pc + 3) ls rest)) : W p l e R s m args below meth c0 H locs cells slots Q (F0 m pc ls (.int x1 :: .ref (ad 500) :: rest)) := by
  subst e_zI545
  subst e_zI546
  subst e_zL547
  subst e_aI611
  subst e_aI620
  subst e_aI624
  exact p_callV (As := [.int x1]) (rest := rest) E.1 hK hP hS hA (kM_setsOut l D G ad σ hu) (cwV 1 E.1.2.2.2.2 (lw_V q2108 q2110 qs103 q142 q2111) rfl rfl rfl (by decide +kernel) hR) dM_500 rfl rfl rfl hsz rfl hW hdg hcs kk
/-! hoursIn(II)J -/
def sgM_hoursIn (σ : Sto) (w0 : Int32) (w1 : Int32) (w2 : Int64) (w3 : Nat → Int32) (w4 : Nat → Int32) : Sto := aI (aI (zL (zI (zI σ 545 w0) 546 w1) 547 w2) 629 w3) 640 w4
theorem sgM_hoursIn_self (σ : Sto) : sgM_hoursIn σ (σ.1 545) (σ.1 546) (σ.2.1 547) (σ.2.2.1 629) (σ.2.2.1 640) = σ := by
  unfold sgM_hoursIn
  simp only [zI_self, zL_self, aI_self, aL_self]
theorem sgM_hoursIn_zI545 {σ : Sto} {w0 : Int32} {w1 : Int32} {w2 : Int64} {w3 : Nat → Int32} {w4 : Nat → Int32} {g : Int32} : zI (sgM_hoursIn σ w0 w1 w2 w3 w4) 545 g = sgM_hoursIn σ g w1 w2 w3 w4 := (cm_zI_aI _ _ _ _ _).trans (congrArg (fun z => aI z 640 w4) ((cm_zI_aI _ _ _ _ _).trans (congrArg (fun z => aI z 629 w3) ((cm_zI_zL _ _ _ _ _).trans (congrArg (fun z => zL z 547 w2) ((zI_comm _ (by decide) _ _).trans (congrArg (fun z => zI z 546 w1) (zI_zI _ 545 _ _))))))))
theorem sgM_hoursIn_zI546 {σ : Sto} {w0 : Int32} {w1 : Int32} {w2 : Int64} {w3 : Nat → Int32} {w4 : Nat → Int32} {g : Int32} : zI (sgM_hoursIn σ w0 w1 w2 w3 w4) 546 g = sgM_hoursIn σ w0 g w2 w3 w4 := (cm_zI_aI _ _ _ _ _).trans (congrArg (fun z => aI z 640 w4) ((cm_zI_aI _ _ _ _ _).trans (congrArg (fun z => aI z 629 w3) ((cm_zI_zL _ _ _ _ _).trans (congrArg (fun z => zL z 547 w2) (zI_zI _ 546 _ _))))))
theorem sgM_hoursIn_zL547 {σ : Sto} {w0 : Int32} {w1 : Int32} {w2 : Int64} {w3 : Nat → Int32} {w4 : Nat → Int32} {g : Int64} : zL (sgM_hoursIn σ w0 w1 w2 w3 w4) 547 g = sgM_hoursIn σ w0 w1 g w3 w4 := (cm_zL_aI _ _ _ _ _).trans (congrArg (fun z => aI z 640 w4) ((cm_zL_aI _ _ _ _ _).trans (congrArg (fun z => aI z 629 w3) (zL_zL _ 547 _ _))))
theorem sgM_hoursIn_aI629 {σ : Sto} {w0 : Int32} {w1 : Int32} {w2 : Int64} {w3 : Nat → Int32} {w4 : Nat → Int32} {g : Nat → Int32} : aI (sgM_hoursIn σ w0 w1 w2 w3 w4) 629 g = sgM_hoursIn σ w0 w1 w2 g w4 := (aI_comm _ (by decide) _ _).trans (congrArg (fun z => aI z 640 w4) (aI_aI _ 629 _ _))
theorem sgM_hoursIn_aI640 {σ : Sto} {w0 : Int32} {w1 : Int32} {w2 : Int64} {w3 : Nat → Int32} {w4 : Nat → Int32} {g : Nat → Int32} : aI (sgM_hoursIn σ w0 w1 w2 w3 w4) 640 g = sgM_hoursIn σ w0 w1 w2 w3 g := aI_aI _ 640 _ _
theorem sgM_hoursIn_rzI541 {σ : Sto} {w0 : Int32} {w1 : Int32} {w2 : Int64} {w3 : Nat → Int32} {w4 : Nat → Int32} : (sgM_hoursIn σ w0 w1 w2 w3 w4).1 541 = σ.1 541 := rfl
theorem sgM_hoursIn_rzI543 {σ : Sto} {w0 : Int32} {w1 : Int32} {w2 : Int64} {w3 : Nat → Int32} {w4 : Nat → Int32} : (sgM_hoursIn σ w0 w1 w2 w3 w4).1 543 = σ.1 543 := rfl
theorem sgM_hoursIn_rzI545 {σ : Sto} {w0 : Int32} {w1 : Int32} {w2 : Int64} {w3 : Nat → Int32} {w4 : Nat → Int32} : (sgM_hoursIn σ w0 w1 w2 w3 w4).1 545 = w0 := rfl
theorem sgM_hoursIn_rzI546 {σ : Sto} {w0 : Int32} {w1 : Int32} {w2 : Int64} {w3 : Nat → Int32} {w4 : Nat → Int32} : (sgM_hoursIn σ w0 w1 w2 w3 w4).1 546 = w1 := rfl
theorem sgM_hoursIn_rzL547 {σ : Sto} {w0 : Int32} {w1 : Int32} {w2 : Int64} {w3 : Nat → Int32} {w4 : Nat → Int32} : (sgM_hoursIn σ w0 w1 w2 w3 w4).2.1 547 = w2 := rfl
theorem sgM_hoursIn_raI611 {σ : Sto} {w0 : Int32} {w1 : Int32} {w2 : Int64} {w3 : Nat → Int32} {w4 : Nat → Int32} : (sgM_hoursIn σ w0 w1 w2 w3 w4).2.2.1 611 = σ.2.2.1 611 := rfl
theorem sgM_hoursIn_raI615 {σ : Sto} {w0 : Int32} {w1 : Int32} {w2 : Int64} {w3 : Nat → Int32} {w4 : Nat → Int32} : (sgM_hoursIn σ w0 w1 w2 w3 w4).2.2.1 615 = σ.2.2.1 615 := rfl
theorem sgM_hoursIn_raI618 {σ : Sto} {w0 : Int32} {w1 : Int32} {w2 : Int64} {w3 : Nat → Int32} {w4 : Nat → Int32} : (sgM_hoursIn σ w0 w1 w2 w3 w4).2.2.1 618 = σ.2.2.1 618 := rfl
theorem sgM_hoursIn_raI620 {σ : Sto} {w0 : Int32} {w1 : Int32} {w2 : Int64} {w3 : Nat → Int32} {w4 : Nat → Int32} : (sgM_hoursIn σ w0 w1 w2 w3 w4).2.2.1 620 = σ.2.2.1 620 := rfl
theorem sgM_hoursIn_raI621 {σ : Sto} {w0 : Int32} {w1 : Int32} {w2 : Int64} {w3 : Nat → Int32} {w4 : Nat → Int32} : (sgM_hoursIn σ w0 w1 w2 w3 w4).2.2.1 621 = σ.2.2.1 621 := rfl
theorem sgM_hoursIn_raI624 {σ : Sto} {w0 : Int32} {w1 : Int32} {w2 : Int64} {w3 : Nat → Int32} {w4 : Nat → Int32} : (sgM_hoursIn σ w0 w1 w2 w3 w4).2.2.1 624 = σ.2.2.1 624 := rfl
theorem sgM_hoursIn_raI629 {σ : Sto} {w0 : Int32} {w1 : Int32} {w2 : Int64} {w3 : Nat → Int32} {w4 : Nat → Int32} : (sgM_hoursIn σ w0 w1 w2 w3 w4).2.2.1 629 = w3 := rfl
theorem sgM_hoursIn_raI631 {σ : Sto} {w0 : Int32} {w1 : Int32} {w2 : Int64} {w3 : Nat → Int32} {w4 : Nat → Int32} : (sgM_hoursIn σ w0 w1 w2 w3 w4).2.2.1 631 = σ.2.2.1 631 := rfl
theorem sgM_hoursIn_raI640 {σ : Sto} {w0 : Int32} {w1 : Int32} {w2 : Int64} {w3 : Nat → Int32} {w4 : Nat → Int32} : (sgM_hoursIn σ w0 w1 w2 w3 w4).2.2.1 640 = w4 := rfl
theorem sgM_hoursIn_raI642 {σ : Sto} {w0 : Int32} {w1 : Int32} {w2 : Int64} {w3 : Nat → Int32} {w4 : Nat → Int32} : (sgM_hoursIn σ w0 w1 w2 w3 w4).2.2.1 642 = σ.2.2.1 642 := rfl
theorem sgM_hoursIn_raI644 {σ : Sto} {w0 : Int32} {w1 : Int32} {w2 : Int64} {w3 : Nat → Int32} {w4 : Nat → Int32} : (sgM_hoursIn σ w0 w1 w2 w3 w4).2.2.1 644 = σ.2.2.1 644 := rfl
abbrev rmM_hoursIn : Room := { frames := 7, cells := 0, slots := 0, locals := 171 }
set_option maxHeartbeats 4000000 in
theorem wkM_hoursIn {x1 : Int32} {x2 : Int32} {r_ : Int64} {w_zI545 : Int32} {w_zI546 : Int32} {w_zL547 : Int64} {w_aI629 : Nat → Int32} {w_aI640 : Nat → Int32} (E : EN p s m args meth c0 RX16 cX16_hoursIn 5 (Option.some Jvm.ClassFile.FieldType.long)) (hK : KK D clsA G s) (hA : ∀ q, PA dscM ad s.heap.size q → A q) (hf : mo_hoursIn (σ.1 541) (σ.1 543) (σ.1 545) (σ.1 546) (σ.2.1 547) (σ.2.2.1 611) (σ.2.2.1 615) (σ.2.2.1 618) (σ.2.2.1 620) (σ.2.2.1 621) (σ.2.2.1 624) (σ.2.2.1 629) (σ.2.2.1 631) (σ.2.2.1 640) (σ.2.2.1 642) (σ.2.2.1 644) x1 x2 = some (r_, w_zI545, w_zI546, w_zL547, w_aI629, w_aI640)) (hQ : Q = MQ below (va_Ql (fun x (_ : Unit) => x = r_) (fun _ t => PM D G ad (sgM_hoursIn σ w_zI545 w_zI546 w_zL547 w_aI629 w_aI640) t.heap ∧ KK D clsA G t) A) args s 0 0 A) (hP : PM D G ad σ H) (hS : va_S A s.heap H locs) (hl : lv_has ls 5 [(0, .ref (ad 500)), (1, .int x1), (2, .int x2)]) : W p l e rmM_hoursIn s m args below meth c0 H locs 0 0 Q (F0 m 0 ls []) := by
  obtain ⟨⟨hx, hb, hml, hown, hts⟩, hr, hlk⟩ := id E
  have hP := hP.to (sgM_hoursIn_self σ).symm
  unfold mo_hoursIn at hf
  refine lv_aload_n hx hb dX16_hoursIn_0 rfl (lv_at hl 0 rfl) ?_
  refine lv_iload_n hx hb dX16_hoursIn_1 rfl (lv_at hl 2 rfl) ?_
  obtain ⟨⟨z1, z2, z3⟩, u4, hf⟩ := bdP hf
  dsimp only at hf
  refine cM_setsOut E hK hP hS hA sgM_hoursIn_rzI545 sgM_hoursIn_rzI546 sgM_hoursIn_rzL547 sgM_hoursIn_raI611 sgM_hoursIn_raI620 sgM_hoursIn_raI624 u4 ⟨Nat.le_of_ble_eq_true rfl, Nat.le_of_ble_eq_true rfl⟩ ⟨Nat.zero_le _, Nat.zero_le _⟩ hl.1 (Nat.le_of_ble_eq_true rfl) dX16_hoursIn_2 (fun H locs hP hS => ?_)
  rw [sgM_hoursIn_zI545, sgM_hoursIn_zI546, sgM_hoursIn_zL547] at hP
  refine lv_iconst hx hb dX16_hoursIn_5 ic_0 ?_
  refine lv_istore_n (lv' := [(3, .int 0), (0, .ref (ad 500)), (1, .int x1), (2, .int x2)]) hx hb dX16_hoursIn_6 rfl hl (by decide) rfl (fun ls hl => ?_)
  have LP7 : ∀ (st7 : Int32 × Int32 × Int32 × Int64 × (Nat → Int32) × (Nat → Int32)) (ex7 : (Int32 × Int32 × Int64 × (Nat → Int32) × (Nat → Int32)) ⊕ (Int32 × Int32 × Int64 × (Nat → Int32) × (Nat → Int32)) ⊕ (Int32 × Int32 × Int64 × (Nat → Int32) × (Nat → Int32))), loop (mo_hoursIn_L7 (σ.1 541) (σ.1 543) (σ.2.2.1 611) (σ.2.2.1 615) (σ.2.2.1 618) (σ.2.2.1 620) (σ.2.2.1 621) (σ.2.2.1 624) (σ.2.2.1 631) (σ.2.2.1 642) (σ.2.2.1 644) x1 x2) st7 = some ex7 → ∀ (H : Heap) (locs : List Loc), PM D G ad (sgM_hoursIn σ (st7.2.1) (st7.2.2.1) (st7.2.2.2.1) (st7.2.2.2.2.1) (st7.2.2.2.2.2)) H → va_S A s.heap H locs → ∀ (ls : Array Slot), lv_has ls 5 [(0, .ref (ad 500)), (1, .int x1), (2, .int x2), (3, .int (st7.1))] → (∀ (z24 : Int32) (z25 : Int32) (z26 : Int64) (a27 : Nat → Int32) (a28 : Nat → Int32), ex7 = (.inl ((z24, z25, z26, a27, a28))) → ∀ (H : Heap) (locs : List Loc), PM D G ad (sgM_hoursIn σ z24 z25 z26 a27 a28) H → va_S A s.heap H locs → ∀ (ls : Array Slot), lv_has ls 5 [] → W p l e rmM_hoursIn s m args below meth c0 H locs 0 0 Q (F0 m 36 ls [])) → (∀ (z29 : Int32) (z30 : Int32) (z31 : Int64) (a32 : Nat → Int32) (a33 : Nat → Int32), ex7 = (.inr (.inl ((z29, z30, z31, a32, a33)))) → ∀ (H : Heap) (locs : List Loc), PM D G ad (sgM_hoursIn σ z29 z30 z31 a32 a33) H → va_S A s.heap H locs → ∀ (ls : Array Slot), lv_has ls 5 [] → W p l e rmM_hoursIn s m args below meth c0 H locs 0 0 Q (F0 m 63 ls [])) → (∀ (z34 : Int32) (z35 : Int32) (z36 : Int64) (a37 : Nat → Int32) (a38 : Nat → Int32), ex7 = (.inr (.inr (z34, z35, z36, a37, a38))) → ∀ (H : Heap) (locs : List Loc), PM D G ad (sgM_hoursIn σ z34 z35 z36 a37 a38) H → va_S A s.heap H locs → ∀ (ls : Array Slot), lv_has ls 5 [(0, .ref (ad 500))] → W p l e rmM_hoursIn s m args below meth c0 H locs 0 0 Q (F0 m 70 ls [])) → W p l e rmM_hoursIn s m args below meth c0 H locs 0 0 Q (F0 m 7 ls []) := by
    refine loop_P (fun st7 ex7 o7 hf ih7 hx7 => ?_)
    obtain ⟨y5, z6, z7, z8, a9, a10⟩ := st7
    intro H locs (hP : PM D G ad (sgM_hoursIn σ z6 z7 z8 a9 a10) H) hS ls (hl : lv_has ls 5 [(0, .ref (ad 500)), (1, .int x1), (2, .int x2), (3, .int y5)]) KE7_0 KE7_1 KE7_2
    dsimp only [mo_hoursIn_L7] at hf
    refine lv_aload_n hx hb dX16_hoursIn_7 rfl (lv_at hl 0 rfl) ?_
    refine gM_45 (v := z6) E hK hP sgM_hoursIn_rzI545 dX16_hoursIn_8 ?_
    refine lv_aload_n hx hb dX16_hoursIn_11 rfl (lv_at hl 0 rfl) ?_
    refine gM_11 E hK hP dX16_hoursIn_12 ?_
    refine lv_bipush hx hb dX16_hoursIn_15 bp_7 ?_
    obtain ⟨v11, hv11, hf⟩ := bdP hf
    refine p_iald hx hb hK hP dM_611 sgM_hoursIn_raI611 hv11 dX16_hoursIn_17 ?_
    refine lv_icmp_eq (tgt := 70) hx hb dX16_hoursIn_18 (by decide) (fun c12 => ?_) (fun c12 => ?_)
    · have hf := ifT c12 hf
      exact KE7_2 _ _ _ _ _ (hx7 _ (Option.some.inj hf).symm).symm H locs hP hS ls (lv_sub hl [0] rfl)
    · have hf := ifF c12 hf
      refine lv_aload_n hx hb dX16_hoursIn_21 rfl (lv_at hl 0 rfl) ?_
      refine gM_46 (v := z7) E hK hP sgM_hoursIn_rzI546 dX16_hoursIn_22 ?_
      refine lv_istore (lv' := [(4, .int z7), (0, .ref (ad 500)), (1, .int x1), (2, .int x2), (3, .int y5)]) hx hb dX16_hoursIn_25 hl (by decide) rfl (fun ls hl => ?_)
      refine lv_aload_n hx hb dX16_hoursIn_27 rfl (lv_at hl 1 rfl) ?_
      refine lv_iload_n hx hb dX16_hoursIn_28 rfl (lv_at hl 2 rfl) ?_
      refine lv_iload_n hx hb dX16_hoursIn_29 rfl (lv_at hl 3 rfl) ?_
      obtain ⟨⟨v13, z14, z15, z16, a17, a18⟩, u19, hf⟩ := bdP hf
      dsimp only at hf
      refine cM_moves E hK hP hS hA sgM_hoursIn_rzI541 sgM_hoursIn_rzI543 sgM_hoursIn_rzI545 sgM_hoursIn_rzI546 sgM_hoursIn_rzL547 sgM_hoursIn_raI611 sgM_hoursIn_raI615 sgM_hoursIn_raI618 sgM_hoursIn_raI620 sgM_hoursIn_raI621 sgM_hoursIn_raI624 sgM_hoursIn_raI629 sgM_hoursIn_raI631 sgM_hoursIn_raI640 sgM_hoursIn_raI642 sgM_hoursIn_raI644 u19 ⟨Nat.le_of_ble_eq_true rfl, Nat.le_of_ble_eq_true rfl⟩ ⟨Nat.zero_le _, Nat.zero_le _⟩ hl.1 (Nat.le_of_ble_eq_true rfl) dX16_hoursIn_30 (fun H locs hP hS => ?_)
      rw [sgM_hoursIn_zI545, sgM_hoursIn_zI546, sgM_hoursIn_zL547, sgM_hoursIn_aI629, sgM_hoursIn_aI640] at hP
      refine lv_if_ne (tgt := 40) hx hb dX16_hoursIn_33 (by decide) (fun c20 => ?_) (fun c20 => ?_)
      · have hf := ifF c20 hf
        refine lv_iload hx hb dX16_hoursIn_40 (lv_at hl 0 rfl) ?_
        refine lv_aload_n hx hb dX16_hoursIn_42 rfl (lv_at hl 1 rfl) ?_
        refine gM_46 (v := z15) E hK hP sgM_hoursIn_rzI546 dX16_hoursIn_43 ?_
        have J56 : ∀ (k21 : Int32), mo_hoursIn_J56 z14 z15 z16 a17 a18 k21 = some o7 → ∀ (H : Heap) (locs : List Loc), PM D G ad (sgM_hoursIn σ z14 z15 z16 a17 a18) H → va_S A s.heap H locs → ∀ (ls : Array Slot), lv_has ls 5 [(0, .ref (ad 500)), (1, .int x1), (2, .int x2)] → W p l e rmM_hoursIn s m args below meth c0 H locs 0 0 Q (F0 m 56 ls [.int k21]) := by
          intro k21 hf H locs hP hS ls hl
          unfold mo_hoursIn_J56 at hf
          refine lv_istore_n (lv' := [(3, .int k21), (0, .ref (ad 500)), (1, .int x1), (2, .int x2)]) hx hb dX16_hoursIn_56 rfl hl (by decide) rfl (fun ls hl => ?_)
          refine lv_iload_n hx hb dX16_hoursIn_57 rfl (lv_at hl 0 rfl) ?_
          refine lv_bipush hx hb dX16_hoursIn_58 bp_10 ?_
          refine lv_icmp_le (tgt := 67) hx hb dX16_hoursIn_60 (by decide) (fun c22 => ?_) (fun c22 => ?_)
          · have hf := ifT c22 hf
            refine lv_goto (tgt := 7) hx hb dX16_hoursIn_67 (by decide) ?_
            exact ih7 _ (Option.some.inj hf).symm H locs hP hS ls (lv_sub hl [1, 2, 3, 0] rfl) KE7_0 KE7_1 KE7_2
          · have hf := ifF c22 hf
            exact KE7_1 _ _ _ _ _ (hx7 _ (Option.some.inj hf).symm).symm H locs hP hS ls (lv_sub hl [] rfl)
        refine lv_icmp_ne (tgt := 55) hx hb dX16_hoursIn_46 (by decide) (fun c23 => ?_) (fun c23 => ?_)
        · have hf := ifF c23 hf
          refine lv_iconst hx hb dX16_hoursIn_55 ic_0 ?_
          exact J56 0 hf H locs hP hS ls (lv_sub hl [1, 2, 3] rfl)
        · have hf := ifT c23 hf
          refine lv_iload_n hx hb dX16_hoursIn_49 rfl (lv_at hl 4 rfl) ?_
          refine lv_iconst hx hb dX16_hoursIn_50 ic_1 ?_
          refine lv_iadd hx hb dX16_hoursIn_51 ?_
          refine lv_goto (tgt := 56) hx hb dX16_hoursIn_52 (by decide) ?_
          exact J56 (y5 + 1) hf H locs hP hS ls (lv_sub hl [1, 2, 3] rfl)
      · have hf := ifT c20 hf
        exact KE7_0 _ _ _ _ _ (hx7 _ (Option.some.inj hf).symm).symm H locs hP hS ls (lv_sub hl [] rfl)
  obtain ⟨ex7, hlp7, hf⟩ := bdP hf
  refine LP7 (0, z1, z2, z3, (σ.2.2.1 629), (σ.2.2.1 640)) ex7 hlp7 H locs hP hS ls (lv_sub hl [1, 2, 3, 0] rfl) ?_ ?_ ?_
  · intro z24 z25 z26 a27 a28 hex7 H locs hP hS ls hl
    subst ex7
    dsimp only [sE_l, sE_r] at hf
    refine lv_ldc2 hx hb hown (hts _ q2136) dX16_hoursIn_36 ?_
    cases hf
    rw [hQ]; exact p_lret hx hb hr hlk hK hP hS dX16_hoursIn_39
  · intro z29 z30 z31 a32 a33 hex7 H locs hP hS ls hl
    subst ex7
    dsimp only [sE_l, sE_r] at hf
    refine lv_ldc2 hx hb hown (hts _ q2136) dX16_hoursIn_63 ?_
    cases hf
    rw [hQ]; exact p_lret hx hb hr hlk hK hP hS dX16_hoursIn_66
  · intro z34 z35 z36 a37 a38 hex7 H locs hP hS ls hl
    subst ex7
    dsimp only [sE_l, sE_r] at hf
    refine lv_aload_n hx hb dX16_hoursIn_70 rfl (lv_at hl 0 rfl) ?_
    refine gM_47 (v := z36) E hK hP sgM_hoursIn_rzL547 dX16_hoursIn_71 ?_
    cases hf
    rw [hQ]; exact p_lret hx hb hr hlk hK hP hS dX16_hoursIn_74
theorem kM_hoursIn (l : Launch) (D : va_G) (G : Nat → ClassId) (ad : Nat → Nat) (σ : Sto) {x1 : Int32} {x2 : Int32} {r_ : Int64} {w_zI545 : Int32} {w_zI546 : Int32} {w_zL547 : Int64} {w_aI629 : Nat → Int32} {w_aI640 : Nat → Int32} (hf : mo_hoursIn (σ.1 541) (σ.1 543) (σ.1 545) (σ.1 546) (σ.2.1 547) (σ.2.2.1 611) (σ.2.2.1 615) (σ.2.2.1 618) (σ.2.2.1 620) (σ.2.2.1 621) (σ.2.2.1 624) (σ.2.2.1 629) (σ.2.2.1 631) (σ.2.2.1 640) (σ.2.2.1 642) (σ.2.2.1 644) x1 x2 = some (r_, w_zI545, w_zI546, w_zL547, w_aI629, w_aI640)) : CtL l D clsA G dscM ad yX16_hoursIn (ws_ yX16_hoursIn cX16_hoursIn 5 (Option.some Jvm.ClassFile.FieldType.long)) rmM_hoursIn [.ref (ad 500), .int x1, .int x2] σ r_ (sgM_hoursIn σ w_zI545 w_zI546 w_zL547 w_aI629 w_aI640) :=
  p_ctL (by decide +kernel) (Nat.le_of_ble_eq_true rfl) (fun p e s m below meth c0 ls A E hP hK hA hS hl => wkM_hoursIn E hK hA hf rfl hP hS hl)
theorem cM_hoursIn (E : EN p s m args meth c0 RX16 cc nL ret) (hK : KK D clsA G s) (hP : PM D G ad σ H) (hS : va_S A s.heap H locs) (hA : ∀ q, PA dscM ad s.heap.size q → A q) {x1 : Int32} {x2 : Int32} {r_ : Int64} {w_zI545 : Int32} {w_zI546 : Int32} {w_zL547 : Int64} {w_aI629 : Nat → Int32} {w_aI640 : Nat → Int32} {z_rowSize : Int32} (e_zI541 : σ.1 541 = z_rowSize) {z_rules : Int32} (e_zI543 : σ.1 543 = z_rules) {z_atPlace : Int32} (e_zI545 : σ.1 545 = z_atPlace) {z_atKnown : Int32} (e_zI546 : σ.1 546 = z_atKnown) {z_atHours : Int64} (e_zL547 : σ.2.1 547 = z_atHours) {a_many : Nat → Int32} (e_aI611 : σ.2.2.1 611 = a_many) {a_road : Nat → Int32} (e_aI615 : σ.2.2.1 615 = a_road) {a_word : Nat → Int32} (e_aI618 : σ.2.2.1 618 = a_word) {a_seen : Nat → Int32} (e_aI620 : σ.2.2.1 620 = a_seen) {a_between : Nat → Int32} (e_aI621 : σ.2.2.1 621 = a_between) {a_three : Nat → Int32} (e_aI624 : σ.2.2.1 624 = a_three) {a_far : Nat → Int32} (e_aI629 : σ.2.2.1 629 = a_far) {a_act : Nat → Int32} (e_aI631 : σ.2.2.1 631 = a_act) {a_hop : Nat → Int32} (e_aI640 : σ.2.2.1 640 = a_hop) {a_row : Nat → Int32} (e_aI642 : σ.2.2.1 642 = a_row) {a_rule : Nat → Int32} (e_aI644 : σ.2.2.1 644 = a_rule) (hu : mo_hoursIn z_rowSize z_rules z_atPlace z_atKnown z_atHours a_many a_road a_word a_seen a_between a_three a_far a_act a_hop a_row a_rule x1 x2 = some (r_, w_zI545, w_zI546, w_zL547, w_aI629, w_aI640)) (hR : rmM_hoursIn.frames + 1 ≤ R.frames ∧ 8 + (5 + 11) + rmM_hoursIn.locals ≤ R.locals) (hcs : cells ≤ R.cells ∧ slots ≤ R.slots) (hsz : ls.size = nL) (hW : (rest.map fun v => v.category).sum ≤ 8) (hdg : decode cc pc = .ok (.invokevirtual 378, 3)) (kk : ∀ (H1 : Heap) (locs1 : List Loc), PM D G ad (aI (aI (zL (zI (zI σ 545 w_zI545) 546 w_zI546) 547 w_zL547) 629 w_aI629) 640 w_aI640) H1 → va_S A s.heap H1 locs1 → W p l e R s m args below meth c0 H1 locs1 cells slots Q (F0 m (pc + 3) ls (.long r_ :: rest))) : W p l e R s m args below meth c0 H locs cells slots Q (F0 m pc ls (.int x2 :: .int x1 :: .ref (ad 500) :: rest)) := by
  subst e_zI541
  subst e_zI543
  subst e_zI545
  subst e_zI546
  subst e_zL547
  subst e_aI611
  subst e_aI615
  subst e_aI618
  subst e_aI620
  subst e_aI621
  subst e_aI624
  subst e_aI629
  subst e_aI631
  subst e_aI640
  subst e_aI642
  subst e_aI644
  exact p_callL (As := [.int x1, .int x2]) (rest := rest) E.1 hK hP hS hA (kM_hoursIn l D G ad σ hu) (cwV 2 E.1.2.2.2.2 (lw_V q2104 q2106 qs102 q142 q2107) rfl rfl rfl (by decide +kernel) hR) dM_500 rfl rfl rfl hsz rfl hW hdg hcs kk
end MWALK
