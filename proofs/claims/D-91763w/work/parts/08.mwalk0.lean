section MWALK
variable {p : Program} {l : Launch} {e : Env} {R : Room} {s : State} {m : MethodId} {args : Array Value} {below : List Frame} {meth : Method} {c0 : Code} {H : Heap} {locs : List Loc} {cells slots : Nat} {Q : State → Prop}
variable {cc : ByteArray} {nL : Nat} {ret : Option FieldType} {pc : Nat} {ls : Array Slot} {rest : List Value} {D : va_G} {A : Nat → Prop} {G : Nat → ClassId} {ad : Nat → Nat} {σ : Sto}
/-! plain()V -/
def sgM_plain (σ : Sto) (w0 : Nat → Int32) : Sto := aI σ 611 w0
theorem sgM_plain_self (σ : Sto) : sgM_plain σ (σ.2.2.1 611) = σ := by
  unfold sgM_plain
  simp only [zI_self, zL_self, aI_self, aL_self]
theorem sgM_plain_aI611 {σ : Sto} {w0 : Nat → Int32} {g : Nat → Int32} : aI (sgM_plain σ w0) 611 g = sgM_plain σ g := aI_aI _ 611 _ _
theorem sgM_plain_raI611 {σ : Sto} {w0 : Nat → Int32} : (sgM_plain σ w0).2.2.1 611 = w0 := rfl
abbrev rmM_plain : Room := { frames := 0, cells := 0, slots := 0, locals := 0 }
set_option maxHeartbeats 4000000 in
theorem wkM_plain  {w_aI611 : Nat → Int32} (E : EN p s m args meth c0 RX16 cX16_plain 2 (Option.none : Option Jvm.ClassFile.FieldType)) (hK : KK D clsA G s) (hA : ∀ q, PA dscM ad s.heap.size q → A q) (hf : mo_plain (σ.2.2.1 611) = some w_aI611) (hQ : Q = MQ below (va_Qv (fun (_ : Unit) => True) (fun _ t => PM D G ad (sgM_plain σ w_aI611) t.heap ∧ KK D clsA G t) A) args s 0 0 A) (hP : PM D G ad σ H) (hS : va_S A s.heap H locs) (hl : lv_has ls 2 [(0, .ref (ad 500))]) : W p l e rmM_plain s m args below meth c0 H locs 0 0 Q (F0 m 0 ls []) := by
  obtain ⟨⟨hx, hb, hml, hown, hts⟩, hr, hlk⟩ := id E
  have hP := hP.to (sgM_plain_self σ).symm
  unfold mo_plain at hf
  refine lv_bipush hx hb dX16_plain_0 bp_8 ?_
  refine lv_istore_n (lv' := [(1, .int 8), (0, .ref (ad 500))]) hx hb dX16_plain_2 rfl hl (by decide) rfl (fun ls hl => ?_)
  have LP3 : ∀ (st3 : Int32 × (Nat → Int32)) (ex3 : ((Nat → Int32))), loop (mo_plain_L3) st3 = some ex3 → ∀ (H : Heap) (locs : List Loc), PM D G ad (sgM_plain σ (st3.2)) H → va_S A s.heap H locs → ∀ (ls : Array Slot), lv_has ls 2 [(0, .ref (ad 500)), (1, .int (st3.1))] → (∀ (a6 : Nat → Int32), ex3 = a6 → ∀ (H : Heap) (locs : List Loc), PM D G ad (sgM_plain σ a6) H → va_S A s.heap H locs → ∀ (ls : Array Slot), lv_has ls 2 [(0, .ref (ad 500))] → W p l e rmM_plain s m args below meth c0 H locs 0 0 Q (F0 m 22 ls [])) → W p l e rmM_plain s m args below meth c0 H locs 0 0 Q (F0 m 3 ls []) := by
    refine loop_P (fun st3 ex3 o3 hf ih3 hx3 => ?_)
    obtain ⟨y1, a2⟩ := st3
    intro H locs (hP : PM D G ad (sgM_plain σ a2) H) hS ls (hl : lv_has ls 2 [(0, .ref (ad 500)), (1, .int y1)]) KE3_0
    dsimp only [mo_plain_L3] at hf
    refine lv_iload_n hx hb dX16_plain_3 rfl (lv_at hl 1 rfl) ?_
    refine lv_bipush hx hb dX16_plain_4 bp_14 ?_
    refine lv_icmp_ge (tgt := 22) hx hb dX16_plain_6 (by decide) (fun c3 => ?_) (fun c3 => ?_)
    · have hf := ifT c3 hf
      exact KE3_0 _ (hx3 _ (Option.some.inj hf).symm).symm H locs hP hS ls (lv_sub hl [0] rfl)
    · have hf := ifF c3 hf
      refine lv_aload_n hx hb dX16_plain_9 rfl (lv_at hl 0 rfl) ?_
      refine gM_11 E hK hP dX16_plain_10 ?_
      refine lv_iload_n hx hb dX16_plain_13 rfl (lv_at hl 1 rfl) ?_
      refine lv_iconst hx hb dX16_plain_14 ic_0 ?_
      obtain ⟨a4, ha4, hf⟩ := bdP hf
      refine p_iast hx hb hK hP hS (hA _ (PA_c dM_611)) dM_611 sgM_plain_raI611 ha4 sgM_plain_aI611 dX16_plain_15 (fun H locs hP hS => ?_)
      obtain ⟨v5, hv5, hf⟩ := bdP hf
      refine lv_iinc (v := v5) (lv' := [(1, .int v5), (0, .ref (ad 500))]) hx hb dX16_plain_16 hl (k := 1) rfl (Option.some.inj hv5) (by decide) rfl (fun ls hl => ?_)
      refine lv_goto (tgt := 3) hx hb dX16_plain_19 (by decide) ?_
      exact ih3 _ (Option.some.inj hf).symm H locs hP hS ls (lv_sub hl [1, 0] rfl) KE3_0
  obtain ⟨ex3, hlp3, hf⟩ := bdP hf
  refine LP3 (8, (σ.2.2.1 611)) ex3 hlp3 H locs hP hS ls (lv_sub hl [1, 0] rfl) ?_
  intro a6 hex3 H locs hP hS ls hl
  subst ex3
  refine lv_aload_n hx hb dX16_plain_22 rfl (lv_at hl 0 rfl) ?_
  refine gM_11 E hK hP dX16_plain_23 ?_
  refine lv_bipush hx hb dX16_plain_26 bp_14 ?_
  refine lv_iconst hx hb dX16_plain_28 ic_m1 ?_
  obtain ⟨a7, ha7, hf⟩ := bdP hf
  refine p_iast hx hb hK hP hS (hA _ (PA_c dM_611)) dM_611 sgM_plain_raI611 ha7 sgM_plain_aI611 dX16_plain_29 (fun H locs hP hS => ?_)
  refine lv_aload_n hx hb dX16_plain_30 rfl (lv_at hl 0 rfl) ?_
  refine gM_11 E hK hP dX16_plain_31 ?_
  refine lv_bipush hx hb dX16_plain_34 bp_15 ?_
  refine lv_iconst hx hb dX16_plain_36 ic_m1 ?_
  obtain ⟨a8, ha8, hf⟩ := bdP hf
  refine p_iast hx hb hK hP hS (hA _ (PA_c dM_611)) dM_611 sgM_plain_raI611 ha8 sgM_plain_aI611 dX16_plain_37 (fun H locs hP hS => ?_)
  cases hf
  rw [hQ]; exact p_vret hx hb hr hlk hK hP hS dX16_plain_38
theorem kM_plain (l : Launch) (D : va_G) (G : Nat → ClassId) (ad : Nat → Nat) (σ : Sto) {w_aI611 : Nat → Int32} (hf : mo_plain (σ.2.2.1 611) = some w_aI611) : CtV l D clsA G dscM ad yX16_plain (ws_ yX16_plain cX16_plain 2 (Option.none : Option Jvm.ClassFile.FieldType)) rmM_plain [.ref (ad 500)] σ (sgM_plain σ w_aI611) :=
  p_ctV (by decide +kernel) (Nat.le_of_ble_eq_true rfl) (fun p e s m below meth c0 ls A E hP hK hA hS hl => wkM_plain E hK hA hf rfl hP hS hl)
theorem cM_plain (E : EN p s m args meth c0 RX16 cc nL ret) (hK : KK D clsA G s) (hP : PM D G ad σ H) (hS : va_S A s.heap H locs) (hA : ∀ q, PA dscM ad s.heap.size q → A q) {w_aI611 : Nat → Int32} {a_many : Nat → Int32} (e_aI611 : σ.2.2.1 611 = a_many) (hu : mo_plain a_many = some w_aI611) (hR : rmM_plain.frames + 1 ≤ R.frames ∧ 8 + (2 + 11) + rmM_plain.locals ≤ R.locals) (hcs : cells ≤ R.cells ∧ slots ≤ R.slots) (hsz : ls.size = nL) (hW : (rest.map fun v => v.category).sum ≤ 8) (hdg : decode cc pc = .ok (.invokevirtual 132, 3)) (kk : ∀ (H1 : Heap) (locs1 : List Loc), PM D G ad (aI σ 611 w_aI611) H1 → va_S A s.heap H1 locs1 → W p l e R s m args below meth c0 H1 locs1 cells slots Q (F0 m (pc + 3) ls rest)) : W p l e R s m args below meth c0 H locs cells slots Q (F0 m pc ls (.ref (ad 500) :: rest)) := by
  subst e_aI611
  exact p_callV (As := []) (rest := rest) E.1 hK hP hS hA (kM_plain l D G ad σ hu) (cwV 0 E.1.2.2.2.2 (lw_V q1639 q1641 qs44 q142 q1642) rfl rfl rfl (by decide +kernel) hR) dM_500 rfl rfl rfl hsz rfl hW hdg hcs kk
/-! doubts()I -/
abbrev rmM_doubts : Room := { frames := 0, cells := 0, slots := 0, locals := 0 }
set_option maxHeartbeats 4000000 in
theorem wkM_doubts  {r_ : Int32} (E : EN p s m args meth c0 RX16 cX16_doubts 1 (Option.some Jvm.ClassFile.FieldType.int)) (hK : KK D clsA G s) (hA : ∀ q, PA dscM ad s.heap.size q → A q) (hf : mo_doubts (σ.2.2.1 611) = some r_) (hQ : Q = MQ below (va_Qi (fun x (_ : Unit) => x = r_) (fun _ t => PM D G ad σ t.heap ∧ KK D clsA G t) A) args s 0 0 A) (hP : PM D G ad σ H) (hS : va_S A s.heap H locs) (hl : lv_has ls 1 [(0, .ref (ad 500))]) : W p l e rmM_doubts s m args below meth c0 H locs 0 0 Q (F0 m 0 ls []) := by
  obtain ⟨⟨hx, hb, hml, hown, hts⟩, hr, hlk⟩ := id E
  unfold mo_doubts at hf
  refine lv_aload_n hx hb dX16_doubts_0 rfl (lv_at hl 0 rfl) ?_
  refine gM_11 E hK hP dX16_doubts_1 ?_
  refine lv_iconst hx hb dX16_doubts_4 ic_3 ?_
  obtain ⟨v1, hv1, hf⟩ := bdP hf
  refine p_iald hx hb hK hP dM_611 rfl hv1 dX16_doubts_5 ?_
  cases hf
  rw [hQ]; exact p_iret hx hb hr hlk hK hP hS dX16_doubts_6
theorem kM_doubts (l : Launch) (D : va_G) (G : Nat → ClassId) (ad : Nat → Nat) (σ : Sto) {r_ : Int32} (hf : mo_doubts (σ.2.2.1 611) = some r_) : CtI l D clsA G dscM ad yX16_doubts (ws_ yX16_doubts cX16_doubts 1 (Option.some Jvm.ClassFile.FieldType.int)) rmM_doubts [.ref (ad 500)] σ r_ σ :=
  p_ctI (by decide +kernel) (Nat.le_of_ble_eq_true rfl) (fun p e s m below meth c0 ls A E hP hK hA hS hl => wkM_doubts E hK hA hf rfl hP hS hl)
theorem cM_doubts (E : EN p s m args meth c0 RX16 cc nL ret) (hK : KK D clsA G s) (hP : PM D G ad σ H) (hS : va_S A s.heap H locs) (hA : ∀ q, PA dscM ad s.heap.size q → A q) {r_ : Int32} {a_many : Nat → Int32} (e_aI611 : σ.2.2.1 611 = a_many) (hu : mo_doubts a_many = some r_) (hR : rmM_doubts.frames + 1 ≤ R.frames ∧ 8 + (1 + 11) + rmM_doubts.locals ≤ R.locals) (hcs : cells ≤ R.cells ∧ slots ≤ R.slots) (hsz : ls.size = nL) (hW : (rest.map fun v => v.category).sum ≤ 8) (hdg : decode cc pc = .ok (.invokevirtual 234, 3)) (kk : ∀ (H1 : Heap) (locs1 : List Loc), PM D G ad σ H1 → va_S A s.heap H1 locs1 → W p l e R s m args below meth c0 H1 locs1 cells slots Q (F0 m (pc + 3) ls (.int r_ :: rest))) : W p l e R s m args below meth c0 H locs cells slots Q (F0 m pc ls (.ref (ad 500) :: rest)) := by
  subst e_aI611
  exact p_callI (As := []) (rest := rest) E.1 hK hP hS hA (kM_doubts l D G ad σ hu) (cwV 0 E.1.2.2.2.2 (lw_V q1647 q1649 qs46 q142 q1650) rfl rfl rfl (by decide +kernel) hR) dM_500 rfl rfl rfl hsz rfl hW hdg hcs kk
/-! digit(II)I -/
abbrev rmM_digit : Room := { frames := 0, cells := 0, slots := 0, locals := 0 }
set_option maxHeartbeats 4000000 in
theorem wkM_digit {x1 : Int32} {x2 : Int32} {r_ : Int32} (E : EN p s m args meth c0 RX16 cX16_digit 3 (Option.some Jvm.ClassFile.FieldType.int)) (hK : KK D clsA G s) (hA : ∀ q, PA dscM ad s.heap.size q → A q) (hf : mo_digit (σ.2.2.1 624) x1 x2 = some r_) (hQ : Q = MQ below (va_Qi (fun x (_ : Unit) => x = r_) (fun _ t => PM D G ad σ t.heap ∧ KK D clsA G t) A) args s 0 0 A) (hP : PM D G ad σ H) (hS : va_S A s.heap H locs) (hl : lv_has ls 3 [(0, .ref (ad 500)), (1, .int x1), (2, .int x2)]) : W p l e rmM_digit s m args below meth c0 H locs 0 0 Q (F0 m 0 ls []) := by
  obtain ⟨⟨hx, hb, hml, hown, hts⟩, hr, hlk⟩ := id E
  unfold mo_digit at hf
  refine lv_iload_n hx hb dX16_digit_0 rfl (lv_at hl 1 rfl) ?_
  refine lv_aload_n hx hb dX16_digit_1 rfl (lv_at hl 0 rfl) ?_
  refine gM_24 E hK hP dX16_digit_2 ?_
  refine lv_iload_n hx hb dX16_digit_5 rfl (lv_at hl 2 rfl) ?_
  obtain ⟨v1, hv1, hf⟩ := bdP hf
  refine p_iald hx hb hK hP dM_624 rfl hv1 dX16_digit_6 ?_
  obtain ⟨v2, hv2, hf⟩ := bdP hf
  refine lv_idiv hx hb dX16_digit_7 (dvI_some hv2).1 ?_
  refine nm_i (dvI_some hv2).2 ?_
  refine lv_iconst hx hb dX16_digit_8 ic_3 ?_
  obtain ⟨v3, hv3, hf⟩ := bdP hf
  refine lv_irem hx hb dX16_digit_9 (rmI_some hv3).1 ?_
  refine nm_i (rmI_some hv3).2 ?_
  cases hf
  rw [hQ]; exact p_iret hx hb hr hlk hK hP hS dX16_digit_10
theorem kM_digit (l : Launch) (D : va_G) (G : Nat → ClassId) (ad : Nat → Nat) (σ : Sto) {x1 : Int32} {x2 : Int32} {r_ : Int32} (hf : mo_digit (σ.2.2.1 624) x1 x2 = some r_) : CtI l D clsA G dscM ad yX16_digit (ws_ yX16_digit cX16_digit 3 (Option.some Jvm.ClassFile.FieldType.int)) rmM_digit [.ref (ad 500), .int x1, .int x2] σ r_ σ :=
  p_ctI (by decide +kernel) (Nat.le_of_ble_eq_true rfl) (fun p e s m below meth c0 ls A E hP hK hA hS hl => wkM_digit E hK hA hf rfl hP hS hl)
theorem cM_digit (E : EN p s m args meth c0 RX16 cc nL ret) (hK : KK D clsA G s) (hP : PM D G ad σ H) (hS : va_S A s.heap H locs) (hA : ∀ q, PA dscM ad s.heap.size q → A q) {x1 : Int32} {x2 : Int32} {r_ : Int32} {a_three : Nat → Int32} (e_aI624 : σ.2.2.1 624 = a_three) (hu : mo_digit a_three x1 x2 = some r_) (hR : rmM_digit.frames + 1 ≤ R.frames ∧ 8 + (3 + 11) + rmM_digit.locals ≤ R.locals) (hcs : cells ≤ R.cells ∧ slots ≤ R.slots) (hsz : ls.size = nL) (hW : (rest.map fun v => v.category).sum ≤ 8) (hdg : decode cc pc = .ok (.invokevirtual 259, 3)) (kk : ∀ (H1 : Heap) (locs1 : List Loc), PM D G ad σ H1 → va_S A s.heap H1 locs1 → W p l e R s m args below meth c0 H1 locs1 cells slots Q (F0 m (pc + 3) ls (.int r_ :: rest))) : W p l e R s m args below meth c0 H locs cells slots Q (F0 m pc ls (.int x2 :: .int x1 :: .ref (ad 500) :: rest)) := by
  subst e_aI624
  exact p_callI (As := [.int x1, .int x2]) (rest := rest) E.1 hK hP hS hA (kM_digit l D G ad σ hu) (cwV 2 E.1.2.2.2.2 (lw_V q1655 q1657 qs48 q142 q1658) rfl rfl rfl (by decide +kernel) hR) dM_500 rfl rfl rfl hsz rfl hW hdg hcs kk
/-! openIn(I)I -/
abbrev rmM_openIn : Room := { frames := 1, cells := 0, slots := 0, locals := 22 }
set_option maxHeartbeats 4000000 in
theorem wkM_openIn {x1 : Int32} {r_ : Int32} (E : EN p s m args meth c0 RX16 cX16_openIn 4 (Option.some Jvm.ClassFile.FieldType.int)) (hK : KK D clsA G s) (hA : ∀ q, PA dscM ad s.heap.size q → A q) (hf : mo_openIn (σ.2.2.1 611) (σ.2.2.1 624) x1 = some r_) (hQ : Q = MQ below (va_Qi (fun x (_ : Unit) => x = r_) (fun _ t => PM D G ad σ t.heap ∧ KK D clsA G t) A) args s 0 0 A) (hP : PM D G ad σ H) (hS : va_S A s.heap H locs) (hl : lv_has ls 4 [(0, .ref (ad 500)), (1, .int x1)]) : W p l e rmM_openIn s m args below meth c0 H locs 0 0 Q (F0 m 0 ls []) := by
  obtain ⟨⟨hx, hb, hml, hown, hts⟩, hr, hlk⟩ := id E
  unfold mo_openIn at hf
  refine lv_iconst hx hb dX16_openIn_0 ic_0 ?_
  refine lv_istore_n (lv' := [(2, .int 0), (0, .ref (ad 500)), (1, .int x1)]) hx hb dX16_openIn_1 rfl hl (by decide) rfl (fun ls hl => ?_)
  refine lv_iconst hx hb dX16_openIn_2 ic_0 ?_
  refine lv_istore_n (lv' := [(3, .int 0), (2, .int 0), (0, .ref (ad 500)), (1, .int x1)]) hx hb dX16_openIn_3 rfl hl (by decide) rfl (fun ls hl => ?_)
  have LP4 : ∀ (st4 : Int32 × Int32) (ex4 : (Int32)), loop (mo_openIn_L4 (σ.2.2.1 611) (σ.2.2.1 624) x1) st4 = some ex4 → ∀ (H : Heap) (locs : List Loc), PM D G ad σ H → va_S A s.heap H locs → ∀ (ls : Array Slot), lv_has ls 4 [(0, .ref (ad 500)), (1, .int x1), (2, .int (st4.1)), (3, .int (st4.2))] → (∀ (y13 : Int32), ex4 = y13 → ∀ (H : Heap) (locs : List Loc), PM D G ad σ H → va_S A s.heap H locs → ∀ (ls : Array Slot), lv_has ls 4 [(2, .int y13)] → W p l e rmM_openIn s m args below meth c0 H locs 0 0 Q (F0 m 35 ls [])) → W p l e rmM_openIn s m args below meth c0 H locs 0 0 Q (F0 m 4 ls []) := by
    refine loop_P (fun st4 ex4 o4 hf ih4 hx4 => ?_)
    obtain ⟨y1, y2⟩ := st4
    intro H locs (hP : PM D G ad σ H) hS ls (hl : lv_has ls 4 [(0, .ref (ad 500)), (1, .int x1), (2, .int y1), (3, .int y2)]) KE4_0
    dsimp only [mo_openIn_L4] at hf
    refine lv_iload_n hx hb dX16_openIn_4 rfl (lv_at hl 3 rfl) ?_
    refine lv_aload_n hx hb dX16_openIn_5 rfl (lv_at hl 0 rfl) ?_
    obtain ⟨v3, u4, hf⟩ := bdP hf
    refine cM_doubts E hK hP hS hA rfl u4 ⟨Nat.le_of_ble_eq_true rfl, Nat.le_of_ble_eq_true rfl⟩ ⟨Nat.zero_le _, Nat.zero_le _⟩ hl.1 (Nat.le_of_ble_eq_true rfl) dX16_openIn_6 (fun H locs hP hS => ?_)
    refine lv_icmp_ge (tgt := 35) hx hb dX16_openIn_9 (by decide) (fun c5 => ?_) (fun c5 => ?_)
    · have hf := ifT c5 hf
      exact KE4_0 _ (hx4 _ (Option.some.inj hf).symm).symm H locs hP hS ls (lv_sub hl [2] rfl)
    · have hf := ifF c5 hf
      refine lv_iload_n hx hb dX16_openIn_12 rfl (lv_at hl 2 rfl) ?_
      refine lv_aload_n hx hb dX16_openIn_13 rfl (lv_at hl 0 rfl) ?_
      refine lv_iload_n hx hb dX16_openIn_14 rfl (lv_at hl 1 rfl) ?_
      refine lv_iload_n hx hb dX16_openIn_15 rfl (lv_at hl 3 rfl) ?_
      obtain ⟨v6, u7, hf⟩ := bdP hf
      refine cM_digit E hK hP hS hA rfl u7 ⟨Nat.le_of_ble_eq_true rfl, Nat.le_of_ble_eq_true rfl⟩ ⟨Nat.zero_le _, Nat.zero_le _⟩ hl.1 (Nat.le_of_ble_eq_true rfl) dX16_openIn_16 (fun H locs hP hS => ?_)
      have J27 : ∀ (k8 : Int32) (k9 : Int32), mo_openIn_J27 y2 k8 k9 = some o4 → ∀ (H : Heap) (locs : List Loc), PM D G ad σ H → va_S A s.heap H locs → ∀ (ls : Array Slot), lv_has ls 4 [(0, .ref (ad 500)), (1, .int x1), (3, .int y2)] → W p l e rmM_openIn s m args below meth c0 H locs 0 0 Q (F0 m 27 ls [.int k8, .int k9]) := by
        intro k8 k9 hf H locs hP hS ls hl
        unfold mo_openIn_J27 at hf
        refine lv_iadd hx hb dX16_openIn_27 ?_
        obtain ⟨v10, hv10, hf⟩ := bdP hf
        refine nm_i (Option.some.inj hv10) ?_
        refine lv_istore_n (lv' := [(2, .int v10), (0, .ref (ad 500)), (1, .int x1), (3, .int y2)]) hx hb dX16_openIn_28 rfl hl (by decide) rfl (fun ls hl => ?_)
        obtain ⟨v11, hv11, hf⟩ := bdP hf
        refine lv_iinc (v := v11) (lv' := [(3, .int v11), (2, .int v10), (0, .ref (ad 500)), (1, .int x1)]) hx hb dX16_openIn_29 hl (k := 3) rfl (Option.some.inj hv11) (by decide) rfl (fun ls hl => ?_)
        refine lv_goto (tgt := 4) hx hb dX16_openIn_32 (by decide) ?_
        exact ih4 _ (Option.some.inj hf).symm H locs hP hS ls (lv_sub hl [2, 3, 1, 0] rfl) KE4_0
      refine lv_if_ne (tgt := 26) hx hb dX16_openIn_19 (by decide) (fun c12 => ?_) (fun c12 => ?_)
      · have hf := ifF c12 hf
        refine lv_iconst hx hb dX16_openIn_26 ic_0 ?_
        exact J27 0 y1 hf H locs hP hS ls (lv_sub hl [0, 1, 3] rfl)
      · have hf := ifT c12 hf
        refine lv_iconst hx hb dX16_openIn_22 ic_1 ?_
        refine lv_goto (tgt := 27) hx hb dX16_openIn_23 (by decide) ?_
        exact J27 1 y1 hf H locs hP hS ls (lv_sub hl [0, 1, 3] rfl)
  obtain ⟨ex4, hlp4, hf⟩ := bdP hf
  refine LP4 (0, 0) ex4 hlp4 H locs hP hS ls (lv_sub hl [2, 3, 1, 0] rfl) ?_
  intro y13 hex4 H locs hP hS ls hl
  subst ex4
  refine lv_iload_n hx hb dX16_openIn_35 rfl (lv_at hl 0 rfl) ?_
  cases hf
  rw [hQ]; exact p_iret hx hb hr hlk hK hP hS dX16_openIn_36
theorem kM_openIn (l : Launch) (D : va_G) (G : Nat → ClassId) (ad : Nat → Nat) (σ : Sto) {x1 : Int32} {r_ : Int32} (hf : mo_openIn (σ.2.2.1 611) (σ.2.2.1 624) x1 = some r_) : CtI l D clsA G dscM ad yX16_openIn (ws_ yX16_openIn cX16_openIn 4 (Option.some Jvm.ClassFile.FieldType.int)) rmM_openIn [.ref (ad 500), .int x1] σ r_ σ :=
  p_ctI (by decide +kernel) (Nat.le_of_ble_eq_true rfl) (fun p e s m below meth c0 ls A E hP hK hA hS hl => wkM_openIn E hK hA hf rfl hP hS hl)
theorem cM_openIn (E : EN p s m args meth c0 RX16 cc nL ret) (hK : KK D clsA G s) (hP : PM D G ad σ H) (hS : va_S A s.heap H locs) (hA : ∀ q, PA dscM ad s.heap.size q → A q) {x1 : Int32} {r_ : Int32} {a_many : Nat → Int32} (e_aI611 : σ.2.2.1 611 = a_many) {a_three : Nat → Int32} (e_aI624 : σ.2.2.1 624 = a_three) (hu : mo_openIn a_many a_three x1 = some r_) (hR : rmM_openIn.frames + 1 ≤ R.frames ∧ 8 + (4 + 11) + rmM_openIn.locals ≤ R.locals) (hcs : cells ≤ R.cells ∧ slots ≤ R.slots) (hsz : ls.size = nL) (hW : (rest.map fun v => v.category).sum ≤ 8) (hdg : decode cc pc = .ok (.invokevirtual 243, 3)) (kk : ∀ (H1 : Heap) (locs1 : List Loc), PM D G ad σ H1 → va_S A s.heap H1 locs1 → W p l e R s m args below meth c0 H1 locs1 cells slots Q (F0 m (pc + 3) ls (.int r_ :: rest))) : W p l e R s m args below meth c0 H locs cells slots Q (F0 m pc ls (.int x1 :: .ref (ad 500) :: rest)) := by
  subst e_aI611
  subst e_aI624
  exact p_callI (As := [.int x1]) (rest := rest) E.1 hK hP hS hA (kM_openIn l D G ad σ hu) (cwV 1 E.1.2.2.2.2 (lw_V q1651 q1653 qs47 q142 q1654) rfl rfl rfl (by decide +kernel) hR) dM_500 rfl rfl rfl hsz rfl hW hdg hcs kk
/-! unknownIn(I)I -/
abbrev rmM_unknownIn : Room := { frames := 1, cells := 0, slots := 0, locals := 22 }
set_option maxHeartbeats 4000000 in
theorem wkM_unknownIn {x1 : Int32} {r_ : Int32} (E : EN p s m args meth c0 RX16 cX16_unknownIn 3 (Option.some Jvm.ClassFile.FieldType.int)) (hK : KK D clsA G s) (hA : ∀ q, PA dscM ad s.heap.size q → A q) (hf : mo_unknownIn (σ.2.2.1 624) x1 = some r_) (hQ : Q = MQ below (va_Qi (fun x (_ : Unit) => x = r_) (fun _ t => PM D G ad σ t.heap ∧ KK D clsA G t) A) args s 0 0 A) (hP : PM D G ad σ H) (hS : va_S A s.heap H locs) (hl : lv_has ls 3 [(0, .ref (ad 500)), (1, .int x1)]) : W p l e rmM_unknownIn s m args below meth c0 H locs 0 0 Q (F0 m 0 ls []) := by
  obtain ⟨⟨hx, hb, hml, hown, hts⟩, hr, hlk⟩ := id E
  unfold mo_unknownIn at hf
  refine lv_iconst hx hb dX16_unknownIn_0 ic_0 ?_
  refine lv_istore_n (lv' := [(2, .int 0), (0, .ref (ad 500)), (1, .int x1)]) hx hb dX16_unknownIn_1 rfl hl (by decide) rfl (fun ls hl => ?_)
  have LP2 : ∀ (st2 : Int32) (ex2 : (Int32)), loop (mo_unknownIn_L2 (σ.2.2.1 624) x1) st2 = some ex2 → ∀ (H : Heap) (locs : List Loc), PM D G ad σ H → va_S A s.heap H locs → ∀ (ls : Array Slot), lv_has ls 3 [(0, .ref (ad 500)), (1, .int x1), (2, .int st2)] → (∀ (y6 : Int32), ex2 = y6 → ∀ (H : Heap) (locs : List Loc), PM D G ad σ H → va_S A s.heap H locs → ∀ (ls : Array Slot), lv_has ls 3 [(2, .int y6)] → W p l e rmM_unknownIn s m args below meth c0 H locs 0 0 Q (F0 m 17 ls [])) → W p l e rmM_unknownIn s m args below meth c0 H locs 0 0 Q (F0 m 2 ls []) := by
    refine loop_P (fun st2 ex2 o2 hf ih2 hx2 => ?_)
    obtain ⟨y1, rfl⟩ : ∃ z, z = st2 := ⟨_, rfl⟩
    intro H locs (hP : PM D G ad σ H) hS ls (hl : lv_has ls 3 [(0, .ref (ad 500)), (1, .int x1), (2, .int y1)]) KE2_0
    dsimp only [mo_unknownIn_L2] at hf
    refine lv_aload_n hx hb dX16_unknownIn_2 rfl (lv_at hl 0 rfl) ?_
    refine lv_iload_n hx hb dX16_unknownIn_3 rfl (lv_at hl 1 rfl) ?_
    refine lv_iload_n hx hb dX16_unknownIn_4 rfl (lv_at hl 2 rfl) ?_
    obtain ⟨v2, u3, hf⟩ := bdP hf
    refine cM_digit E hK hP hS hA rfl u3 ⟨Nat.le_of_ble_eq_true rfl, Nat.le_of_ble_eq_true rfl⟩ ⟨Nat.zero_le _, Nat.zero_le _⟩ hl.1 (Nat.le_of_ble_eq_true rfl) dX16_unknownIn_5 (fun H locs hP hS => ?_)
    refine lv_if_eq (tgt := 17) hx hb dX16_unknownIn_8 (by decide) (fun c4 => ?_) (fun c4 => ?_)
    · have hf := ifT c4 hf
      exact KE2_0 _ (hx2 _ (Option.some.inj hf).symm).symm H locs hP hS ls (lv_sub hl [2] rfl)
    · have hf := ifF c4 hf
      obtain ⟨v5, hv5, hf⟩ := bdP hf
      refine lv_iinc (v := v5) (lv' := [(2, .int v5), (0, .ref (ad 500)), (1, .int x1)]) hx hb dX16_unknownIn_11 hl (k := 2) rfl (Option.some.inj hv5) (by decide) rfl (fun ls hl => ?_)
      refine lv_goto (tgt := 2) hx hb dX16_unknownIn_14 (by decide) ?_
      exact ih2 _ (Option.some.inj hf).symm H locs hP hS ls (lv_sub hl [1, 2, 0] rfl) KE2_0
  obtain ⟨ex2, hlp2, hf⟩ := bdP hf
  refine LP2 0 ex2 hlp2 H locs hP hS ls (lv_sub hl [1, 2, 0] rfl) ?_
  intro y6 hex2 H locs hP hS ls hl
  subst ex2
  refine lv_iload_n hx hb dX16_unknownIn_17 rfl (lv_at hl 0 rfl) ?_
  cases hf
  rw [hQ]; exact p_iret hx hb hr hlk hK hP hS dX16_unknownIn_18
theorem kM_unknownIn (l : Launch) (D : va_G) (G : Nat → ClassId) (ad : Nat → Nat) (σ : Sto) {x1 : Int32} {r_ : Int32} (hf : mo_unknownIn (σ.2.2.1 624) x1 = some r_) : CtI l D clsA G dscM ad yX16_unknownIn (ws_ yX16_unknownIn cX16_unknownIn 3 (Option.some Jvm.ClassFile.FieldType.int)) rmM_unknownIn [.ref (ad 500), .int x1] σ r_ σ :=
  p_ctI (by decide +kernel) (Nat.le_of_ble_eq_true rfl) (fun p e s m below meth c0 ls A E hP hK hA hS hl => wkM_unknownIn E hK hA hf rfl hP hS hl)
theorem cM_unknownIn (E : EN p s m args meth c0 RX16 cc nL ret) (hK : KK D clsA G s) (hP : PM D G ad σ H) (hS : va_S A s.heap H locs) (hA : ∀ q, PA dscM ad s.heap.size q → A q) {x1 : Int32} {r_ : Int32} {a_three : Nat → Int32} (e_aI624 : σ.2.2.1 624 = a_three) (hu : mo_unknownIn a_three x1 = some r_) (hR : rmM_unknownIn.frames + 1 ≤ R.frames ∧ 8 + (3 + 11) + rmM_unknownIn.locals ≤ R.locals) (hcs : cells ≤ R.cells ∧ slots ≤ R.slots) (hsz : ls.size = nL) (hW : (rest.map fun v => v.category).sum ≤ 8) (hdg : decode cc pc = .ok (.invokevirtual 274, 3)) (kk : ∀ (H1 : Heap) (locs1 : List Loc), PM D G ad σ H1 → va_S A s.heap H1 locs1 → W p l e R s m args below meth c0 H1 locs1 cells slots Q (F0 m (pc + 3) ls (.int r_ :: rest))) : W p l e R s m args below meth c0 H locs cells slots Q (F0 m pc ls (.int x1 :: .ref (ad 500) :: rest)) := by
  subst e_aI624
  exact p_callI (As := [.int x1]) (rest := rest) E.1 hK hP hS hA (kM_unknownIn l D G ad σ hu) (cwV 1 E.1.2.2.2.2 (lw_V q1676 q1678 qs53 q142 q1679) rfl rfl rfl (by decide +kernel) hR) dM_500 rfl rfl rfl hsz rfl hW hdg hcs kk
/-! worldOf(I)I -/
abbrev rmM_worldOf : Room := { frames := 1, cells := 0, slots := 0, locals := 22 }
set_option maxHeartbeats 4000000 in
theorem wkM_worldOf {x1 : Int32} {r_ : Int32} (E : EN p s m args meth c0 RX16 cX16_worldOf 4 (Option.some Jvm.ClassFile.FieldType.int)) (hK : KK D clsA G s) (hA : ∀ q, PA dscM ad s.heap.size q → A q) (hf : mo_worldOf (σ.2.2.1 611) (σ.2.2.1 624) x1 = some r_) (hQ : Q = MQ below (va_Qi (fun x (_ : Unit) => x = r_) (fun _ t => PM D G ad σ t.heap ∧ KK D clsA G t) A) args s 0 0 A) (hP : PM D G ad σ H) (hS : va_S A s.heap H locs) (hl : lv_has ls 4 [(0, .ref (ad 500)), (1, .int x1)]) : W p l e rmM_worldOf s m args below meth c0 H locs 0 0 Q (F0 m 0 ls []) := by
  obtain ⟨⟨hx, hb, hml, hown, hts⟩, hr, hlk⟩ := id E
  unfold mo_worldOf at hf
  refine lv_iconst hx hb dX16_worldOf_0 ic_0 ?_
  refine lv_istore_n (lv' := [(2, .int 0), (0, .ref (ad 500)), (1, .int x1)]) hx hb dX16_worldOf_1 rfl hl (by decide) rfl (fun ls hl => ?_)
  refine lv_iconst hx hb dX16_worldOf_2 ic_0 ?_
  refine lv_istore_n (lv' := [(3, .int 0), (2, .int 0), (0, .ref (ad 500)), (1, .int x1)]) hx hb dX16_worldOf_3 rfl hl (by decide) rfl (fun ls hl => ?_)
  have LP4 : ∀ (st4 : Int32 × Int32) (ex4 : (Int32)), loop (mo_worldOf_L4 (σ.2.2.1 611) (σ.2.2.1 624) x1) st4 = some ex4 → ∀ (H : Heap) (locs : List Loc), PM D G ad σ H → va_S A s.heap H locs → ∀ (ls : Array Slot), lv_has ls 4 [(0, .ref (ad 500)), (1, .int x1), (2, .int (st4.1)), (3, .int (st4.2))] → (∀ (y13 : Int32), ex4 = y13 → ∀ (H : Heap) (locs : List Loc), PM D G ad σ H → va_S A s.heap H locs → ∀ (ls : Array Slot), lv_has ls 4 [(2, .int y13)] → W p l e rmM_worldOf s m args below meth c0 H locs 0 0 Q (F0 m 38 ls [])) → W p l e rmM_worldOf s m args below meth c0 H locs 0 0 Q (F0 m 4 ls []) := by
    refine loop_P (fun st4 ex4 o4 hf ih4 hx4 => ?_)
    obtain ⟨y1, y2⟩ := st4
    intro H locs (hP : PM D G ad σ H) hS ls (hl : lv_has ls 4 [(0, .ref (ad 500)), (1, .int x1), (2, .int y1), (3, .int y2)]) KE4_0
    dsimp only [mo_worldOf_L4] at hf
    refine lv_iload_n hx hb dX16_worldOf_4 rfl (lv_at hl 3 rfl) ?_
    refine lv_aload_n hx hb dX16_worldOf_5 rfl (lv_at hl 0 rfl) ?_
    obtain ⟨v3, u4, hf⟩ := bdP hf
    refine cM_doubts E hK hP hS hA rfl u4 ⟨Nat.le_of_ble_eq_true rfl, Nat.le_of_ble_eq_true rfl⟩ ⟨Nat.zero_le _, Nat.zero_le _⟩ hl.1 (Nat.le_of_ble_eq_true rfl) dX16_worldOf_6 (fun H locs hP hS => ?_)
    refine lv_icmp_ge (tgt := 38) hx hb dX16_worldOf_9 (by decide) (fun c5 => ?_) (fun c5 => ?_)
    · have hf := ifT c5 hf
      exact KE4_0 _ (hx4 _ (Option.some.inj hf).symm).symm H locs hP hS ls (lv_sub hl [2] rfl)
    · have hf := ifF c5 hf
      refine lv_iload_n hx hb dX16_worldOf_12 rfl (lv_at hl 2 rfl) ?_
      refine lv_aload_n hx hb dX16_worldOf_13 rfl (lv_at hl 0 rfl) ?_
      refine lv_iload_n hx hb dX16_worldOf_14 rfl (lv_at hl 1 rfl) ?_
      refine lv_iload_n hx hb dX16_worldOf_15 rfl (lv_at hl 3 rfl) ?_
      obtain ⟨v6, u7, hf⟩ := bdP hf
      refine cM_digit E hK hP hS hA rfl u7 ⟨Nat.le_of_ble_eq_true rfl, Nat.le_of_ble_eq_true rfl⟩ ⟨Nat.zero_le _, Nat.zero_le _⟩ hl.1 (Nat.le_of_ble_eq_true rfl) dX16_worldOf_16 (fun H locs hP hS => ?_)
      refine lv_iconst hx hb dX16_worldOf_19 ic_2 ?_
      have J30 : ∀ (k8 : Int32) (k9 : Int32), mo_worldOf_J30 y2 k8 k9 = some o4 → ∀ (H : Heap) (locs : List Loc), PM D G ad σ H → va_S A s.heap H locs → ∀ (ls : Array Slot), lv_has ls 4 [(0, .ref (ad 500)), (1, .int x1), (3, .int y2)] → W p l e rmM_worldOf s m args below meth c0 H locs 0 0 Q (F0 m 30 ls [.int k8, .int k9]) := by
        intro k8 k9 hf H locs hP hS ls hl
        unfold mo_worldOf_J30 at hf
        refine lv_ior hx hb dX16_worldOf_30 ?_
        obtain ⟨v10, hv10, hf⟩ := bdP hf
        refine nm_i (Option.some.inj hv10) ?_
        refine lv_istore_n (lv' := [(2, .int v10), (0, .ref (ad 500)), (1, .int x1), (3, .int y2)]) hx hb dX16_worldOf_31 rfl hl (by decide) rfl (fun ls hl => ?_)
        obtain ⟨v11, hv11, hf⟩ := bdP hf
        refine lv_iinc (v := v11) (lv' := [(3, .int v11), (2, .int v10), (0, .ref (ad 500)), (1, .int x1)]) hx hb dX16_worldOf_32 hl (k := 3) rfl (Option.some.inj hv11) (by decide) rfl (fun ls hl => ?_)
        refine lv_goto (tgt := 4) hx hb dX16_worldOf_35 (by decide) ?_
        exact ih4 _ (Option.some.inj hf).symm H locs hP hS ls (lv_sub hl [2, 3, 1, 0] rfl) KE4_0
      refine lv_icmp_ne (tgt := 29) hx hb dX16_worldOf_20 (by decide) (fun c12 => ?_) (fun c12 => ?_)
      · have hf := ifF c12 hf
        refine lv_iconst hx hb dX16_worldOf_29 ic_0 ?_
        exact J30 0 y1 hf H locs hP hS ls (lv_sub hl [0, 1, 3] rfl)
      · have hf := ifT c12 hf
        refine lv_iconst hx hb dX16_worldOf_23 ic_1 ?_
        refine lv_iload_n hx hb dX16_worldOf_24 rfl (lv_at hl 3 rfl) ?_
        refine lv_ishl hx hb dX16_worldOf_25 ?_
        refine lv_goto (tgt := 30) hx hb dX16_worldOf_26 (by decide) ?_
        exact J30 (1 <<< (y2 &&& 31)) y1 hf H locs hP hS ls (lv_sub hl [0, 1, 3] rfl)
  obtain ⟨ex4, hlp4, hf⟩ := bdP hf
  refine LP4 (0, 0) ex4 hlp4 H locs hP hS ls (lv_sub hl [2, 3, 1, 0] rfl) ?_
  intro y13 hex4 H locs hP hS ls hl
  subst ex4
  refine lv_iload_n hx hb dX16_worldOf_38 rfl (lv_at hl 0 rfl) ?_
  cases hf
  rw [hQ]; exact p_iret hx hb hr hlk hK hP hS dX16_worldOf_39
theorem kM_worldOf (l : Launch) (D : va_G) (G : Nat → ClassId) (ad : Nat → Nat) (σ : Sto) {x1 : Int32} {r_ : Int32} (hf : mo_worldOf (σ.2.2.1 611) (σ.2.2.1 624) x1 = some r_) : CtI l D clsA G dscM ad yX16_worldOf (ws_ yX16_worldOf cX16_worldOf 4 (Option.some Jvm.ClassFile.FieldType.int)) rmM_worldOf [.ref (ad 500), .int x1] σ r_ σ :=
  p_ctI (by decide +kernel) (Nat.le_of_ble_eq_true rfl) (fun p e s m below meth c0 ls A E hP hK hA hS hl => wkM_worldOf E hK hA hf rfl hP hS hl)
theorem cM_worldOf (E : EN p s m args meth c0 RX16 cc nL ret) (hK : KK D clsA G s) (hP : PM D G ad σ H) (hS : va_S A s.heap H locs) (hA : ∀ q, PA dscM ad s.heap.size q → A q) {x1 : Int32} {r_ : Int32} {a_many : Nat → Int32} (e_aI611 : σ.2.2.1 611 = a_many) {a_three : Nat → Int32} (e_aI624 : σ.2.2.1 624 = a_three) (hu : mo_worldOf a_many a_three x1 = some r_) (hR : rmM_worldOf.frames + 1 ≤ R.frames ∧ 8 + (4 + 11) + rmM_worldOf.locals ≤ R.locals) (hcs : cells ≤ R.cells ∧ slots ≤ R.slots) (hsz : ls.size = nL) (hW : (rest.map fun v => v.category).sum ≤ 8) (hdg : decode cc pc = .ok (.invokevirtual 271, 3)) (kk : ∀ (H1 : Heap) (locs1 : List Loc), PM D G ad σ H1 → va_S A s.heap H1 locs1 → W p l e R s m args below meth c0 H1 locs1 cells slots Q (F0 m (pc + 3) ls (.int r_ :: rest))) : W p l e R s m args below meth c0 H locs cells slots Q (F0 m pc ls (.int x1 :: .ref (ad 500) :: rest)) := by
  subst e_aI611
  subst e_aI624
  exact p_callI (As := [.int x1]) (rest := rest) E.1 hK hP hS hA (kM_worldOf l D G ad σ hu) (cwV 1 E.1.2.2.2.2 (lw_V q1672 q1674 qs52 q142 q1675) rfl rfl rfl (by decide +kernel) hR) dM_500 rfl rfl rfl hsz rfl hW hdg hcs kk
/-! layLikely()V -/
def sgM_layLikely (σ : Sto) (w0 : Nat → Int64) : Sto := aL σ 628 w0
theorem sgM_layLikely_self (σ : Sto) : sgM_layLikely σ (σ.2.2.2.1 628) = σ := by
  unfold sgM_layLikely
  simp only [zI_self, zL_self, aI_self, aL_self]
theorem sgM_layLikely_aL628 {σ : Sto} {w0 : Nat → Int64} {g : Nat → Int64} : aL (sgM_layLikely σ w0) 628 g = sgM_layLikely σ g := aL_aL _ 628 _ _
theorem sgM_layLikely_rzI523 {σ : Sto} {w0 : Nat → Int64} : (sgM_layLikely σ w0).1 523 = σ.1 523 := rfl
theorem sgM_layLikely_raI611 {σ : Sto} {w0 : Nat → Int64} : (sgM_layLikely σ w0).2.2.1 611 = σ.2.2.1 611 := rfl
theorem sgM_layLikely_raI624 {σ : Sto} {w0 : Nat → Int64} : (sgM_layLikely σ w0).2.2.1 624 = σ.2.2.1 624 := rfl
theorem sgM_layLikely_raI625 {σ : Sto} {w0 : Nat → Int64} : (sgM_layLikely σ w0).2.2.1 625 = σ.2.2.1 625 := rfl
theorem sgM_layLikely_raL627 {σ : Sto} {w0 : Nat → Int64} : (sgM_layLikely σ w0).2.2.2.1 627 = σ.2.2.2.1 627 := rfl
theorem sgM_layLikely_raL628 {σ : Sto} {w0 : Nat → Int64} : (sgM_layLikely σ w0).2.2.2.1 628 = w0 := rfl
abbrev rmM_layLikely : Room := { frames := 2, cells := 0, slots := 0, locals := 45 }
set_option maxHeartbeats 4000000 in
theorem wkM_layLikely  {w_aL628 : Nat → Int64} (E : EN p s m args meth c0 RX16 cX16_layLikely 4 (Option.none : Option Jvm.ClassFile.FieldType)) (hK : KK D clsA G s) (hA : ∀ q, PA dscM ad s.heap.size q → A q) (hf : mo_layLikely (σ.1 523) (σ.2.2.1 611) (σ.2.2.1 624) (σ.2.2.1 625) (σ.2.2.2.1 627) (σ.2.2.2.1 628) = some w_aL628) (hQ : Q = MQ below (va_Qv (fun (_ : Unit) => True) (fun _ t => PM D G ad (sgM_layLikely σ w_aL628) t.heap ∧ KK D clsA G t) A) args s 0 0 A) (hP : PM D G ad σ H) (hS : va_S A s.heap H locs) (hl : lv_has ls 4 [(0, .ref (ad 500))]) : W p l e rmM_layLikely s m args below meth c0 H locs 0 0 Q (F0 m 0 ls []) := by
  obtain ⟨⟨hx, hb, hml, hown, hts⟩, hr, hlk⟩ := id E
  have hP := hP.to (sgM_layLikely_self σ).symm
  unfold mo_layLikely at hf
  refine lv_iconst hx hb dX16_layLikely_0 ic_0 ?_
  refine lv_istore_n (lv' := [(1, .int 0), (0, .ref (ad 500))]) hx hb dX16_layLikely_1 rfl hl (by decide) rfl (fun ls hl => ?_)
  have LP2 : ∀ (st2 : Int32 × (Nat → Int64)) (ex2 : ((Nat → Int64))), loop (mo_layLikely_L2 (σ.1 523) (σ.2.2.1 611) (σ.2.2.1 624) (σ.2.2.1 625) (σ.2.2.2.1 627)) st2 = some ex2 → ∀ (H : Heap) (locs : List Loc), PM D G ad (sgM_layLikely σ (st2.2)) H → va_S A s.heap H locs → ∀ (ls : Array Slot), lv_has ls 4 [(0, .ref (ad 500)), (1, .int (st2.1))] → (∀ (a21 : Nat → Int64), ex2 = a21 → ∀ (H : Heap) (locs : List Loc), PM D G ad (sgM_layLikely σ a21) H → va_S A s.heap H locs → ∀ (ls : Array Slot), lv_has ls 4 [] → W p l e rmM_layLikely s m args below meth c0 H locs 0 0 Q (F0 m 91 ls [])) → W p l e rmM_layLikely s m args below meth c0 H locs 0 0 Q (F0 m 2 ls []) := by
    refine loop_P (fun st2 ex2 o2 hf ih2 hx2 => ?_)
    obtain ⟨y1, a2⟩ := st2
    intro H locs (hP : PM D G ad (sgM_layLikely σ a2) H) hS ls (hl : lv_has ls 4 [(0, .ref (ad 500)), (1, .int y1)]) KE2_0
    dsimp only [mo_layLikely_L2] at hf
    refine lv_iload_n hx hb dX16_layLikely_2 rfl (lv_at hl 1 rfl) ?_
    refine lv_aload_n hx hb dX16_layLikely_3 rfl (lv_at hl 0 rfl) ?_
    refine gM_23 (v := (σ.1 523)) E hK hP sgM_layLikely_rzI523 dX16_layLikely_4 ?_
    refine lv_icmp_ge (tgt := 91) hx hb dX16_layLikely_7 (by decide) (fun c3 => ?_) (fun c3 => ?_)
    · have hf := ifT c3 hf
      exact KE2_0 _ (hx2 _ (Option.some.inj hf).symm).symm H locs hP hS ls (lv_sub hl [] rfl)
    · have hf := ifF c3 hf
      refine lv_aload_n hx hb dX16_layLikely_10 rfl (lv_at hl 0 rfl) ?_
      refine gM_25 E hK hP dX16_layLikely_11 ?_
      refine lv_iload_n hx hb dX16_layLikely_14 rfl (lv_at hl 1 rfl) ?_
      obtain ⟨v4, hv4, hf⟩ := bdP hf
      refine p_iald hx hb hK hP dM_625 sgM_layLikely_raI625 hv4 dX16_layLikely_15 ?_
      refine lv_istore_n (lv' := [(2, .int v4), (0, .ref (ad 500)), (1, .int y1)]) hx hb dX16_layLikely_16 rfl hl (by decide) rfl (fun ls hl => ?_)
      refine lv_aload_n hx hb dX16_layLikely_17 rfl (lv_at hl 1 rfl) ?_
      refine lv_iload_n hx hb dX16_layLikely_18 rfl (lv_at hl 0 rfl) ?_
      obtain ⟨v5, u6, hf⟩ := bdP hf
      refine cM_openIn E hK hP hS hA sgM_layLikely_raI611 sgM_layLikely_raI624 u6 ⟨Nat.le_of_ble_eq_true rfl, Nat.le_of_ble_eq_true rfl⟩ ⟨Nat.zero_le _, Nat.zero_le _⟩ hl.1 (Nat.le_of_ble_eq_true rfl) dX16_layLikely_19 (fun H locs hP hS => ?_)
      have J85 : ∀ (a7 : Nat → Int64), mo_layLikely_J85 y1 a7 = some o2 → ∀ (H : Heap) (locs : List Loc), PM D G ad (sgM_layLikely σ a7) H → va_S A s.heap H locs → ∀ (ls : Array Slot), lv_has ls 4 [(0, .ref (ad 500)), (1, .int y1)] → W p l e rmM_layLikely s m args below meth c0 H locs 0 0 Q (F0 m 85 ls []) := by
        intro a7 hf H locs hP hS ls hl
        unfold mo_layLikely_J85 at hf
        obtain ⟨v8, hv8, hf⟩ := bdP hf
        refine lv_iinc (v := v8) (lv' := [(1, .int v8), (0, .ref (ad 500))]) hx hb dX16_layLikely_85 hl (k := 1) rfl (Option.some.inj hv8) (by decide) rfl (fun ls hl => ?_)
        refine lv_goto (tgt := 2) hx hb dX16_layLikely_88 (by decide) ?_
        exact ih2 _ (Option.some.inj hf).symm H locs hP hS ls (lv_sub hl [1, 0] rfl) KE2_0
      refine lv_if_ne (tgt := 44) hx hb dX16_layLikely_22 (by decide) (fun c9 => ?_) (fun c9 => ?_)
      · have hf := ifF c9 hf
        refine lv_aload_n hx hb dX16_layLikely_44 rfl (lv_at hl 1 rfl) ?_
        refine lv_iload_n hx hb dX16_layLikely_45 rfl (lv_at hl 0 rfl) ?_
        obtain ⟨v10, u11, hf⟩ := bdP hf
        refine cM_unknownIn E hK hP hS hA sgM_layLikely_raI624 u11 ⟨Nat.le_of_ble_eq_true rfl, Nat.le_of_ble_eq_true rfl⟩ ⟨Nat.zero_le _, Nat.zero_le _⟩ hl.1 (Nat.le_of_ble_eq_true rfl) dX16_layLikely_46 (fun H locs hP hS => ?_)
        refine lv_istore_n (lv' := [(3, .int v10), (2, .int v4), (0, .ref (ad 500)), (1, .int y1)]) hx hb dX16_layLikely_49 rfl hl (by decide) rfl (fun ls hl => ?_)
        refine lv_aload_n hx hb dX16_layLikely_50 rfl (lv_at hl 2 rfl) ?_
        refine gM_28 E hK hP dX16_layLikely_51 ?_
        refine lv_iload_n hx hb dX16_layLikely_54 rfl (lv_at hl 1 rfl) ?_
        refine lv_aload_n hx hb dX16_layLikely_55 rfl (lv_at hl 2 rfl) ?_
        refine gM_28 E hK hP dX16_layLikely_56 ?_
        refine lv_iload_n hx hb dX16_layLikely_59 rfl (lv_at hl 1 rfl) ?_
        refine lv_aload_n hx hb dX16_layLikely_60 rfl (lv_at hl 2 rfl) ?_
        refine gM_24 E hK hP dX16_layLikely_61 ?_
        refine lv_iload_n hx hb dX16_layLikely_64 rfl (lv_at hl 0 rfl) ?_
        obtain ⟨v12, hv12, hf⟩ := bdP hf
        refine p_iald hx hb hK hP dM_624 sgM_layLikely_raI624 hv12 dX16_layLikely_65 ?_
        refine lv_iadd hx hb dX16_layLikely_66 ?_
        obtain ⟨v13, hv13, hf⟩ := bdP hf
        refine p_lald hx hb hK hP dM_628 sgM_layLikely_raL628 hv13 dX16_layLikely_67 ?_
        refine lv_aload_n hx hb dX16_layLikely_68 rfl (lv_at hl 2 rfl) ?_
        refine gM_28 E hK hP dX16_layLikely_69 ?_
        refine lv_iload_n hx hb dX16_layLikely_72 rfl (lv_at hl 1 rfl) ?_
        refine lv_iconst hx hb dX16_layLikely_73 ic_2 ?_
        refine lv_aload_n hx hb dX16_layLikely_74 rfl (lv_at hl 2 rfl) ?_
        refine gM_24 E hK hP dX16_layLikely_75 ?_
        refine lv_iload_n hx hb dX16_layLikely_78 rfl (lv_at hl 0 rfl) ?_
        obtain ⟨v14, hv14, hf⟩ := bdP hf
        refine p_iald hx hb hK hP dM_624 sgM_layLikely_raI624 hv14 dX16_layLikely_79 ?_
        refine lv_imul hx hb dX16_layLikely_80 ?_
        refine lv_iadd hx hb dX16_layLikely_81 ?_
        obtain ⟨v15, hv15, hf⟩ := bdP hf
        refine p_lald hx hb hK hP dM_628 sgM_layLikely_raL628 hv15 dX16_layLikely_82 ?_
        refine lv_ladd hx hb dX16_layLikely_83 ?_
        obtain ⟨a16, ha16, hf⟩ := bdP hf
        refine p_last hx hb hK hP hS (hA _ (PA_c dM_628)) dM_628 sgM_layLikely_raL628 ha16 sgM_layLikely_aL628 dX16_layLikely_84 (fun H locs hP hS => ?_)
        exact J85 a16 hf H locs hP hS ls (lv_sub hl [2, 3] rfl)
      · have hf := ifT c9 hf
        refine lv_aload_n hx hb dX16_layLikely_25 rfl (lv_at hl 1 rfl) ?_
        refine gM_28 E hK hP dX16_layLikely_26 ?_
        refine lv_iload_n hx hb dX16_layLikely_29 rfl (lv_at hl 0 rfl) ?_
        refine lv_aload_n hx hb dX16_layLikely_30 rfl (lv_at hl 1 rfl) ?_
        refine gM_27 E hK hP dX16_layLikely_31 ?_
        refine lv_aload_n hx hb dX16_layLikely_34 rfl (lv_at hl 1 rfl) ?_
        refine lv_iload_n hx hb dX16_layLikely_35 rfl (lv_at hl 0 rfl) ?_
        obtain ⟨v17, u18, hf⟩ := bdP hf
        refine cM_worldOf E hK hP hS hA sgM_layLikely_raI611 sgM_layLikely_raI624 u18 ⟨Nat.le_of_ble_eq_true rfl, Nat.le_of_ble_eq_true rfl⟩ ⟨Nat.zero_le _, Nat.zero_le _⟩ hl.1 (Nat.le_of_ble_eq_true rfl) dX16_layLikely_36 (fun H locs hP hS => ?_)
        obtain ⟨v19, hv19, hf⟩ := bdP hf
        refine p_lald hx hb hK hP dM_627 sgM_layLikely_raL627 hv19 dX16_layLikely_39 ?_
        obtain ⟨a20, ha20, hf⟩ := bdP hf
        refine p_last hx hb hK hP hS (hA _ (PA_c dM_628)) dM_628 sgM_layLikely_raL628 ha20 sgM_layLikely_aL628 dX16_layLikely_40 (fun H locs hP hS => ?_)
        refine lv_goto (tgt := 85) hx hb dX16_layLikely_41 (by decide) ?_
        exact J85 a20 hf H locs hP hS ls (lv_sub hl [1, 2] rfl)
  obtain ⟨ex2, hlp2, hf⟩ := bdP hf
  refine LP2 (0, (σ.2.2.2.1 628)) ex2 hlp2 H locs hP hS ls (lv_sub hl [1, 0] rfl) ?_
  intro a21 hex2 H locs hP hS ls hl
  subst ex2
  cases hf
  rw [hQ]; exact p_vret hx hb hr hlk hK hP hS dX16_layLikely_91
theorem kM_layLikely (l : Launch) (D : va_G) (G : Nat → ClassId) (ad : Nat → Nat) (σ : Sto) {w_aL628 : Nat → Int64} (hf : mo_layLikely (σ.1 523) (σ.2.2.1 611) (σ.2.2.1 624) (σ.2.2.1 625) (σ.2.2.2.1 627) (σ.2.2.2.1 628) = some w_aL628) : CtV l D clsA G dscM ad yX16_layLikely (ws_ yX16_layLikely cX16_layLikely 4 (Option.none : Option Jvm.ClassFile.FieldType)) rmM_layLikely [.ref (ad 500)] σ (sgM_layLikely σ w_aL628) :=
  p_ctV (by decide +kernel) (Nat.le_of_ble_eq_true rfl) (fun p e s m below meth c0 ls A E hP hK hA hS hl => wkM_layLikely E hK hA hf rfl hP hS hl)
theorem cM_layLikely (E : EN p s m args meth c0 RX16 cc nL ret) (hK : KK D clsA G s) (hP : PM D G ad σ H) (hS : va_S A s.heap H locs) (hA : ∀ q, PA dscM ad s.heap.size q → A q) {w_aL628 : Nat → Int64} {z_knowings : Int32} (e_zI523 : σ.1 523 = z_knowings) {a_many : Nat → Int32} (e_aI611 : σ.2.2.1 611 = a_many) {a_three : Nat → Int32} (e_aI624 : σ.2.2.1 624 = a_three) {a_turn : Nat → Int32} (e_aI625 : σ.2.2.1 625 = a_turn) {a_use : Nat → Int64} (e_aL627 : σ.2.2.2.1 627 = a_use) {a_likely : Nat → Int64} (e_aL628 : σ.2.2.2.1 628 = a_likely) (hu : mo_layLikely z_knowings a_many a_three a_turn a_use a_likely = some w_aL628) (hR : rmM_layLikely.frames + 1 ≤ R.frames ∧ 8 + (4 + 11) + rmM_layLikely.locals ≤ R.locals) (hcs : cells ≤ R.cells ∧ slots ≤ R.slots) (hsz : ls.size = nL) (hW : (rest.map fun v => v.category).sum ≤ 8) (hdg : decode cc pc = .ok (.invokevirtual 264, 3)) (kk : ∀ (H1 : Heap) (locs1 : List Loc), PM D G ad (aL σ 628 w_aL628) H1 → va_S A s.heap H1 locs1 → W p l e R s m args below meth c0 H1 locs1 cells slots Q (F0 m (pc + 3) ls rest)) : W p l e R s m args below meth c0 H locs cells slots Q (F0 m pc ls (.ref (ad 500) :: rest)) := by
  subst e_zI523
  subst e_aI611
  subst e_aI624
  subst e_aI625
  subst e_aL627
  subst e_aL628
  exact p_callV (As := []) (rest := rest) E.1 hK hP hS hA (kM_layLikely l D G ad σ hu) (cwV 0 E.1.2.2.2.2 (lw_V q1668 q1670 qs51 q142 q1671) rfl rfl rfl (by decide +kernel) hR) dM_500 rfl rfl rfl hsz rfl hW hdg hcs kk
/-! layUse(II)V -/
def sgM_layUse (σ : Sto) (w0 : Nat → Int64) (w1 : Nat → Int64) : Sto := aL (aL σ 627 w0) 628 w1
theorem sgM_layUse_self (σ : Sto) : sgM_layUse σ (σ.2.2.2.1 627) (σ.2.2.2.1 628) = σ := by
  unfold sgM_layUse
  simp only [zI_self, zL_self, aI_self, aL_self]
theorem sgM_layUse_aL627 {σ : Sto} {w0 : Nat → Int64} {w1 : Nat → Int64} {g : Nat → Int64} : aL (sgM_layUse σ w0 w1) 627 g = sgM_layUse σ g w1 := (aL_comm _ (by decide) _ _).trans (congrArg (fun z => aL z 628 w1) (aL_aL _ 627 _ _))
theorem sgM_layUse_aL628 {σ : Sto} {w0 : Nat → Int64} {w1 : Nat → Int64} {g : Nat → Int64} : aL (sgM_layUse σ w0 w1) 628 g = sgM_layUse σ w0 g := aL_aL _ 628 _ _
theorem sgM_layUse_rzI522 {σ : Sto} {w0 : Nat → Int64} {w1 : Nat → Int64} : (sgM_layUse σ w0 w1).1 522 = σ.1 522 := rfl
theorem sgM_layUse_rzI523 {σ : Sto} {w0 : Nat → Int64} {w1 : Nat → Int64} : (sgM_layUse σ w0 w1).1 523 = σ.1 523 := rfl
theorem sgM_layUse_raI611 {σ : Sto} {w0 : Nat → Int64} {w1 : Nat → Int64} : (sgM_layUse σ w0 w1).2.2.1 611 = σ.2.2.1 611 := rfl
theorem sgM_layUse_raI614 {σ : Sto} {w0 : Nat → Int64} {w1 : Nat → Int64} : (sgM_layUse σ w0 w1).2.2.1 614 = σ.2.2.1 614 := rfl
theorem sgM_layUse_raI615 {σ : Sto} {w0 : Nat → Int64} {w1 : Nat → Int64} : (sgM_layUse σ w0 w1).2.2.1 615 = σ.2.2.1 615 := rfl
theorem sgM_layUse_raI616 {σ : Sto} {w0 : Nat → Int64} {w1 : Nat → Int64} : (sgM_layUse σ w0 w1).2.2.1 616 = σ.2.2.1 616 := rfl
theorem sgM_layUse_raI624 {σ : Sto} {w0 : Nat → Int64} {w1 : Nat → Int64} : (sgM_layUse σ w0 w1).2.2.1 624 = σ.2.2.1 624 := rfl
theorem sgM_layUse_raI625 {σ : Sto} {w0 : Nat → Int64} {w1 : Nat → Int64} : (sgM_layUse σ w0 w1).2.2.1 625 = σ.2.2.1 625 := rfl
theorem sgM_layUse_raL627 {σ : Sto} {w0 : Nat → Int64} {w1 : Nat → Int64} : (sgM_layUse σ w0 w1).2.2.2.1 627 = w0 := rfl
theorem sgM_layUse_raL628 {σ : Sto} {w0 : Nat → Int64} {w1 : Nat → Int64} : (sgM_layUse σ w0 w1).2.2.2.1 628 = w1 := rfl
abbrev rmM_layUse : Room := { frames := 3, cells := 0, slots := 0, locals := 68 }
set_option maxHeartbeats 4000000 in
theorem wkM_layUse {x1 : Int32} {x2 : Int32} {w_aL627 : Nat → Int64} {w_aL628 : Nat → Int64} (E : EN p s m args meth c0 RX16 cX16_layUse 15 (Option.none : Option Jvm.ClassFile.FieldType)) (hK : KK D clsA G s) (hA : ∀ q, PA dscM ad s.heap.size q → A q) (hf : mo_layUse (σ.1 522) (σ.1 523) (σ.2.2.1 611) (σ.2.2.1 614) (σ.2.2.1 615) (σ.2.2.1 616) (σ.2.2.1 624) (σ.2.2.1 625) (σ.2.2.2.1 627) (σ.2.2.2.1 628) x1 x2 = some (w_aL627, w_aL628)) (hQ : Q = MQ below (va_Qv (fun (_ : Unit) => True) (fun _ t => PM D G ad (sgM_layUse σ w_aL627 w_aL628) t.heap ∧ KK D clsA G t) A) args s 0 0 A) (hP : PM D G ad σ H) (hS : va_S A s.heap H locs) (hl : lv_has ls 15 [(0, .ref (ad 500)), (1, .int x1), (2, .int x2)]) : W p l e rmM_layUse s m args below meth c0 H locs 0 0 Q (F0 m 0 ls []) := by
  obtain ⟨⟨hx, hb, hml, hown, hts⟩, hr, hlk⟩ := id E
  have hP := hP.to (sgM_layUse_self σ).symm
  unfold mo_layUse at hf
  refine lv_iconst hx hb dX16_layUse_0 ic_0 ?_
  refine lv_istore_n (lv' := [(3, .int 0), (0, .ref (ad 500)), (1, .int x1), (2, .int x2)]) hx hb dX16_layUse_1 rfl hl (by decide) rfl (fun ls hl => ?_)
  have LP2 : ∀ (st2 : Int32 × (Nat → Int64)) (ex2 : ((Nat → Int64))), loop (mo_layUse_L2 (σ.1 522) (σ.2.2.1 611) (σ.2.2.1 614) (σ.2.2.1 615) (σ.2.2.1 616) x1 x2) st2 = some ex2 → ∀ (H : Heap) (locs : List Loc), PM D G ad (sgM_layUse σ (st2.2) (σ.2.2.2.1 628)) H → va_S A s.heap H locs → ∀ (ls : Array Slot), lv_has ls 15 [(0, .ref (ad 500)), (1, .int x1), (2, .int x2), (3, .int (st2.1))] → (∀ (a60 : Nat → Int64), ex2 = a60 → ∀ (H : Heap) (locs : List Loc), PM D G ad (sgM_layUse σ a60 (σ.2.2.2.1 628)) H → va_S A s.heap H locs → ∀ (ls : Array Slot), lv_has ls 15 [(0, .ref (ad 500))] → W p l e rmM_layUse s m args below meth c0 H locs 0 0 Q (F0 m 315 ls [])) → W p l e rmM_layUse s m args below meth c0 H locs 0 0 Q (F0 m 2 ls []) := by
    refine loop_P (fun st2 ex2 o2 hf ih2 hx2 => ?_)
    obtain ⟨y1, a2⟩ := st2
    intro H locs (hP : PM D G ad (sgM_layUse σ a2 (σ.2.2.2.1 628)) H) hS ls (hl : lv_has ls 15 [(0, .ref (ad 500)), (1, .int x1), (2, .int x2), (3, .int y1)]) KE2_0
    dsimp only [mo_layUse_L2] at hf
    refine lv_iload_n hx hb dX16_layUse_2 rfl (lv_at hl 3 rfl) ?_
    refine lv_aload_n hx hb dX16_layUse_3 rfl (lv_at hl 0 rfl) ?_
    refine gM_22 (v := (σ.1 522)) E hK hP sgM_layUse_rzI522 dX16_layUse_4 ?_
    refine lv_icmp_ge (tgt := 315) hx hb dX16_layUse_7 (by decide) (fun c3 => ?_) (fun c3 => ?_)
    · have hf := ifT c3 hf
      exact KE2_0 _ (hx2 _ (Option.some.inj hf).symm).symm H locs hP hS ls (lv_sub hl [0] rfl)
    · have hf := ifF c3 hf
      refine lv_lconst hx hb dX16_layUse_10 lc_0 ?_
      refine lv_lstore (lv' := [(4, .long 0), (0, .ref (ad 500)), (1, .int x1), (2, .int x2), (3, .int y1)]) hx hb dX16_layUse_11 hl (by decide) rfl (fun ls hl => ?_)
      refine lv_iconst hx hb dX16_layUse_13 ic_0 ?_
      refine lv_istore (lv' := [(6, .int 0), (4, .long 0), (0, .ref (ad 500)), (1, .int x1), (2, .int x2), (3, .int y1)]) hx hb dX16_layUse_14 hl (by decide) rfl (fun ls hl => ?_)
      have LP16 : ∀ (st16 : Int64 × Int32) (ex16 : (Int64)), loop (mo_layUse_L16 (σ.2.2.1 611) (σ.2.2.1 614) (σ.2.2.1 615) (σ.2.2.1 616) x1 y1 x2) st16 = some ex16 → ∀ (H : Heap) (locs : List Loc), PM D G ad (sgM_layUse σ a2 (σ.2.2.2.1 628)) H → va_S A s.heap H locs → ∀ (ls : Array Slot), lv_has ls 15 [(0, .ref (ad 500)), (1, .int x1), (2, .int x2), (3, .int y1), (4, .long (st16.1)), (6, .int (st16.2))] → (∀ (y57 : Int64), ex16 = y57 → ∀ (H : Heap) (locs : List Loc), PM D G ad (sgM_layUse σ a2 (σ.2.2.2.1 628)) H → va_S A s.heap H locs → ∀ (ls : Array Slot), lv_has ls 15 [(0, .ref (ad 500)), (1, .int x1), (2, .int x2), (3, .int y1), (4, .long y57)] → W p l e rmM_layUse s m args below meth c0 H locs 0 0 Q (F0 m 301 ls [])) → W p l e rmM_layUse s m args below meth c0 H locs 0 0 Q (F0 m 16 ls []) := by
        refine loop_P (fun st16 ex16 o16 hf ih16 hx16 => ?_)
        obtain ⟨y4, y5⟩ := st16
        intro H locs (hP : PM D G ad (sgM_layUse σ a2 (σ.2.2.2.1 628)) H) hS ls (hl : lv_has ls 15 [(0, .ref (ad 500)), (1, .int x1), (2, .int x2), (3, .int y1), (4, .long y4), (6, .int y5)]) KE16_0
        dsimp only [mo_layUse_L16] at hf
        refine lv_iload hx hb dX16_layUse_16 (lv_at hl 5 rfl) ?_
        refine lv_iconst hx hb dX16_layUse_18 ic_1 ?_
        refine lv_aload_n hx hb dX16_layUse_19 rfl (lv_at hl 0 rfl) ?_
        refine gM_11 E hK hP dX16_layUse_20 ?_
        refine lv_iconst hx hb dX16_layUse_23 ic_1 ?_
        obtain ⟨v6, hv6, hf⟩ := bdP hf
        refine p_iald hx hb hK hP dM_611 sgM_layUse_raI611 hv6 dX16_layUse_24 ?_
        refine lv_ishl hx hb dX16_layUse_25 ?_
        refine lv_icmp_ge (tgt := 301) hx hb dX16_layUse_26 (by decide) (fun c7 => ?_) (fun c7 => ?_)
        · have hf := ifT c7 hf
          exact KE16_0 _ (hx16 _ (Option.some.inj hf).symm).symm H locs hP hS ls (lv_sub hl [0, 1, 2, 3, 4] rfl)
        · have hf := ifF c7 hf
          refine lv_lconst hx hb dX16_layUse_29 lc_1 ?_
          refine lv_lstore (lv' := [(7, .long 1), (0, .ref (ad 500)), (1, .int x1), (2, .int x2), (3, .int y1), (4, .long y4), (6, .int y5)]) hx hb dX16_layUse_30 hl (by decide) rfl (fun ls hl => ?_)
          refine lv_iconst hx hb dX16_layUse_32 ic_0 ?_
          refine lv_istore (lv' := [(9, .int 0), (7, .long 1), (0, .ref (ad 500)), (1, .int x1), (2, .int x2), (3, .int y1), (4, .long y4), (6, .int y5)]) hx hb dX16_layUse_33 hl (by decide) rfl (fun ls hl => ?_)
          have LP35 : ∀ (st35 : Int64 × Int32) (ex35 : (Int64)), loop (mo_layUse_L35 (σ.2.2.1 611) (σ.2.2.1 614) y5) st35 = some ex35 → ∀ (H : Heap) (locs : List Loc), PM D G ad (sgM_layUse σ a2 (σ.2.2.2.1 628)) H → va_S A s.heap H locs → ∀ (ls : Array Slot), lv_has ls 15 [(0, .ref (ad 500)), (1, .int x1), (2, .int x2), (3, .int y1), (4, .long y4), (6, .int y5), (7, .long (st35.1)), (9, .int (st35.2))] → (∀ (y19 : Int64), ex35 = y19 → ∀ (H : Heap) (locs : List Loc), PM D G ad (sgM_layUse σ a2 (σ.2.2.2.1 628)) H → va_S A s.heap H locs → ∀ (ls : Array Slot), lv_has ls 15 [(0, .ref (ad 500)), (1, .int x1), (2, .int x2), (3, .int y1), (4, .long y4), (6, .int y5), (7, .long y19)] → W p l e rmM_layUse s m args below meth c0 H locs 0 0 Q (F0 m 90 ls [])) → W p l e rmM_layUse s m args below meth c0 H locs 0 0 Q (F0 m 35 ls []) := by
            refine loop_P (fun st35 ex35 o35 hf ih35 hx35 => ?_)
            obtain ⟨y8, y9⟩ := st35
            intro H locs (hP : PM D G ad (sgM_layUse σ a2 (σ.2.2.2.1 628)) H) hS ls (hl : lv_has ls 15 [(0, .ref (ad 500)), (1, .int x1), (2, .int x2), (3, .int y1), (4, .long y4), (6, .int y5), (7, .long y8), (9, .int y9)]) KE35_0
            dsimp only [mo_layUse_L35] at hf
            refine lv_iload hx hb dX16_layUse_35 (lv_at hl 7 rfl) ?_
            refine lv_aload_n hx hb dX16_layUse_37 rfl (lv_at hl 0 rfl) ?_
            refine gM_11 E hK hP dX16_layUse_38 ?_
            refine lv_iconst hx hb dX16_layUse_41 ic_1 ?_
            obtain ⟨v10, hv10, hf⟩ := bdP hf
            refine p_iald hx hb hK hP dM_611 sgM_layUse_raI611 hv10 dX16_layUse_42 ?_
            refine lv_icmp_ge (tgt := 90) hx hb dX16_layUse_43 (by decide) (fun c11 => ?_) (fun c11 => ?_)
            · have hf := ifT c11 hf
              exact KE35_0 _ (hx35 _ (Option.some.inj hf).symm).symm H locs hP hS ls (lv_sub hl [0, 1, 2, 3, 4, 5, 6] rfl)
            · have hf := ifF c11 hf
              refine lv_lload hx hb dX16_layUse_46 (lv_at hl 6 rfl) ?_
              refine lv_iload hx hb dX16_layUse_48 (lv_at hl 5 rfl) ?_
              refine lv_iload hx hb dX16_layUse_50 (lv_at hl 7 rfl) ?_
              refine lv_ishr hx hb dX16_layUse_52 ?_
              refine lv_iconst hx hb dX16_layUse_53 ic_1 ?_
              refine lv_iand hx hb dX16_layUse_54 ?_
              refine lv_iconst hx hb dX16_layUse_55 ic_1 ?_
              have J81 : ∀ (k12 : Int64) (k13 : Int64), mo_layUse_J81 y9 k12 k13 = some o35 → ∀ (H : Heap) (locs : List Loc), PM D G ad (sgM_layUse σ a2 (σ.2.2.2.1 628)) H → va_S A s.heap H locs → ∀ (ls : Array Slot), lv_has ls 15 [(0, .ref (ad 500)), (1, .int x1), (2, .int x2), (3, .int y1), (4, .long y4), (6, .int y5), (9, .int y9)] → W p l e rmM_layUse s m args below meth c0 H locs 0 0 Q (F0 m 81 ls [.long k12, .long k13]) := by
                intro k12 k13 hf H locs hP hS ls hl
                unfold mo_layUse_J81 at hf
                refine lv_lmul hx hb dX16_layUse_81 ?_
                obtain ⟨v14, hv14, hf⟩ := bdP hf
                refine nm_l (Option.some.inj hv14) ?_
                refine lv_lstore (lv' := [(7, .long v14), (0, .ref (ad 500)), (1, .int x1), (2, .int x2), (3, .int y1), (4, .long y4), (6, .int y5), (9, .int y9)]) hx hb dX16_layUse_82 hl (by decide) rfl (fun ls hl => ?_)
                obtain ⟨v15, hv15, hf⟩ := bdP hf
                refine lv_iinc (v := v15) (lv' := [(9, .int v15), (7, .long v14), (0, .ref (ad 500)), (1, .int x1), (2, .int x2), (3, .int y1), (4, .long y4), (6, .int y5)]) hx hb dX16_layUse_84 hl (k := 7) rfl (Option.some.inj hv15) (by decide) rfl (fun ls hl => ?_)
                refine lv_goto (tgt := 35) hx hb dX16_layUse_87 (by decide) ?_
                exact ih35 _ (Option.some.inj hf).symm H locs hP hS ls (lv_sub hl [2, 3, 4, 5, 6, 7, 1, 0] rfl) KE35_0
              refine lv_icmp_ne (tgt := 70) hx hb dX16_layUse_56 (by decide) (fun c16 => ?_) (fun c16 => ?_)
              · have hf := ifF c16 hf
                refine lv_bipush hx hb dX16_layUse_70 bp_10 ?_
                refine lv_aload_n hx hb dX16_layUse_72 rfl (lv_at hl 0 rfl) ?_
                refine gM_14 E hK hP dX16_layUse_73 ?_
                refine lv_iload hx hb dX16_layUse_76 (lv_at hl 7 rfl) ?_
                obtain ⟨v17, hv17, hf⟩ := bdP hf
                refine p_iald hx hb hK hP dM_614 sgM_layUse_raI614 hv17 dX16_layUse_78 ?_
                refine lv_isub hx hb dX16_layUse_79 ?_
                refine lv_i2l hx hb dX16_layUse_80 rfl ?_
                exact J81 ((10 - v17).toInt64) y8 hf H locs hP hS ls (lv_sub hl [0, 1, 2, 3, 4, 5, 7] rfl)
              · have hf := ifT c16 hf
                refine lv_aload_n hx hb dX16_layUse_59 rfl (lv_at hl 0 rfl) ?_
                refine gM_14 E hK hP dX16_layUse_60 ?_
                refine lv_iload hx hb dX16_layUse_63 (lv_at hl 7 rfl) ?_
                obtain ⟨v18, hv18, hf⟩ := bdP hf
                refine p_iald hx hb hK hP dM_614 sgM_layUse_raI614 hv18 dX16_layUse_65 ?_
                refine lv_i2l hx hb dX16_layUse_66 rfl ?_
                refine lv_goto (tgt := 81) hx hb dX16_layUse_67 (by decide) ?_
                exact J81 (v18.toInt64) y8 hf H locs hP hS ls (lv_sub hl [0, 1, 2, 3, 4, 5, 7] rfl)
          obtain ⟨ex35, hlp35, hf⟩ := bdP hf
          refine LP35 (1, 0) ex35 hlp35 H locs hP hS ls (lv_sub hl [2, 3, 4, 5, 6, 7, 1, 0] rfl) ?_
          intro y19 hex35 H locs hP hS ls hl
          subst ex35
          refine lv_iconst hx hb dX16_layUse_90 ic_0 ?_
          refine lv_istore (lv' := [(9, .int 0), (0, .ref (ad 500)), (1, .int x1), (2, .int x2), (3, .int y1), (4, .long y4), (6, .int y5), (7, .long y19)]) hx hb dX16_layUse_91 hl (by decide) rfl (fun ls hl => ?_)
          have LP93 : ∀ (st93 : Int64 × Int32) (ex93 : (Int64)), loop (mo_layUse_L93 (σ.2.2.1 611) (σ.2.2.1 615) (σ.2.2.1 616) x1 y1 x2 y5) st93 = some ex93 → ∀ (H : Heap) (locs : List Loc), PM D G ad (sgM_layUse σ a2 (σ.2.2.2.1 628)) H → va_S A s.heap H locs → ∀ (ls : Array Slot), lv_has ls 15 [(0, .ref (ad 500)), (1, .int x1), (2, .int x2), (3, .int y1), (4, .long y4), (6, .int y5), (7, .long (st93.1)), (9, .int (st93.2))] → (∀ (y54 : Int64), ex93 = y54 → ∀ (H : Heap) (locs : List Loc), PM D G ad (sgM_layUse σ a2 (σ.2.2.2.1 628)) H → va_S A s.heap H locs → ∀ (ls : Array Slot), lv_has ls 15 [(0, .ref (ad 500)), (1, .int x1), (2, .int x2), (3, .int y1), (4, .long y4), (6, .int y5), (7, .long y54)] → W p l e rmM_layUse s m args below meth c0 H locs 0 0 Q (F0 m 288 ls [])) → W p l e rmM_layUse s m args below meth c0 H locs 0 0 Q (F0 m 93 ls []) := by
            refine loop_P (fun st93 ex93 o93 hf ih93 hx93 => ?_)
            obtain ⟨y20, y21⟩ := st93
            intro H locs (hP : PM D G ad (sgM_layUse σ a2 (σ.2.2.2.1 628)) H) hS ls (hl : lv_has ls 15 [(0, .ref (ad 500)), (1, .int x1), (2, .int x2), (3, .int y1), (4, .long y4), (6, .int y5), (7, .long y20), (9, .int y21)]) KE93_0
            dsimp only [mo_layUse_L93] at hf
            refine lv_iload hx hb dX16_layUse_93 (lv_at hl 7 rfl) ?_
            refine lv_aload_n hx hb dX16_layUse_95 rfl (lv_at hl 0 rfl) ?_
            obtain ⟨v22, u23, hf⟩ := bdP hf
            refine cM_doubts E hK hP hS hA sgM_layUse_raI611 u23 ⟨Nat.le_of_ble_eq_true rfl, Nat.le_of_ble_eq_true rfl⟩ ⟨Nat.zero_le _, Nat.zero_le _⟩ hl.1 (Nat.le_of_ble_eq_true rfl) dX16_layUse_96 (fun H locs hP hS => ?_)
            refine lv_icmp_ge (tgt := 288) hx hb dX16_layUse_99 (by decide) (fun c24 => ?_) (fun c24 => ?_)
            · have hf := ifT c24 hf
              exact KE93_0 _ (hx93 _ (Option.some.inj hf).symm).symm H locs hP hS ls (lv_sub hl [0, 1, 2, 3, 4, 5, 6] rfl)
            · have hf := ifF c24 hf
              refine lv_bipush hx hb dX16_layUse_102 bp_7 ?_
              refine lv_aload_n hx hb dX16_layUse_104 rfl (lv_at hl 0 rfl) ?_
              refine gM_16 E hK hP dX16_layUse_105 ?_
              refine lv_iload hx hb dX16_layUse_108 (lv_at hl 7 rfl) ?_
              obtain ⟨v25, hv25, hf⟩ := bdP hf
              refine p_iald hx hb hK hP dM_616 sgM_layUse_raI616 hv25 dX16_layUse_110 ?_
              refine lv_imul hx hb dX16_layUse_111 ?_
              obtain ⟨v26, hv26, hf⟩ := bdP hf
              refine nm_i (Option.some.inj hv26) ?_
              refine lv_istore (lv' := [(10, .int v26), (0, .ref (ad 500)), (1, .int x1), (2, .int x2), (3, .int y1), (4, .long y4), (6, .int y5), (7, .long y20), (9, .int y21)]) hx hb dX16_layUse_112 hl (by decide) rfl (fun ls hl => ?_)
              refine lv_iload hx hb dX16_layUse_114 (lv_at hl 8 rfl) ?_
              refine lv_iload_n hx hb dX16_layUse_116 rfl (lv_at hl 2 rfl) ?_
              have J133 : ∀ (k27 : Int32), mo_layUse_J133 (σ.2.2.1 615) y1 y5 y20 y21 v26 k27 = some o93 → ∀ (H : Heap) (locs : List Loc), PM D G ad (sgM_layUse σ a2 (σ.2.2.2.1 628)) H → va_S A s.heap H locs → ∀ (ls : Array Slot), lv_has ls 15 [(0, .ref (ad 500)), (1, .int x1), (2, .int x2), (3, .int y1), (4, .long y4), (6, .int y5), (7, .long y20), (9, .int y21), (10, .int v26)] → W p l e rmM_layUse s m args below meth c0 H locs 0 0 Q (F0 m 133 ls [.int k27]) := by
                intro k27 hf H locs hP hS ls hl
                unfold mo_layUse_J133 at hf
                refine lv_istore (lv' := [(11, .int k27), (0, .ref (ad 500)), (1, .int x1), (2, .int x2), (3, .int y1), (4, .long y4), (6, .int y5), (7, .long y20), (9, .int y21), (10, .int v26)]) hx hb dX16_layUse_133 hl (by decide) rfl (fun ls hl => ?_)
                refine lv_aload_n hx hb dX16_layUse_135 rfl (lv_at hl 1 rfl) ?_
                refine gM_15 E hK hP dX16_layUse_136 ?_
                refine lv_iload hx hb dX16_layUse_139 (lv_at hl 9 rfl) ?_
                refine lv_iconst hx hb dX16_layUse_141 ic_4 ?_
                refine lv_iadd hx hb dX16_layUse_142 ?_
                obtain ⟨v28, hv28, hf⟩ := bdP hf
                refine p_iald hx hb hK hP dM_615 sgM_layUse_raI615 hv28 dX16_layUse_143 ?_
                have J170 : ∀ (k29 : Int32), mo_layUse_J170 (σ.2.2.1 615) y1 y20 y21 v26 k27 k29 = some o93 → ∀ (H : Heap) (locs : List Loc), PM D G ad (sgM_layUse σ a2 (σ.2.2.2.1 628)) H → va_S A s.heap H locs → ∀ (ls : Array Slot), lv_has ls 15 [(0, .ref (ad 500)), (1, .int x1), (2, .int x2), (3, .int y1), (4, .long y4), (6, .int y5), (7, .long y20), (9, .int y21), (10, .int v26), (11, .int k27)] → W p l e rmM_layUse s m args below meth c0 H locs 0 0 Q (F0 m 170 ls [.int k29]) := by
                  intro k29 hf H locs hP hS ls hl
                  unfold mo_layUse_J170 at hf
                  refine lv_istore (lv' := [(12, .int k29), (0, .ref (ad 500)), (1, .int x1), (2, .int x2), (3, .int y1), (4, .long y4), (6, .int y5), (7, .long y20), (9, .int y21), (10, .int v26), (11, .int k27)]) hx hb dX16_layUse_170 hl (by decide) rfl (fun ls hl => ?_)
                  refine lv_iload_n hx hb dX16_layUse_172 rfl (lv_at hl 4 rfl) ?_
                  refine lv_iload hx hb dX16_layUse_173 (lv_at hl 8 rfl) ?_
                  refine lv_ishr hx hb dX16_layUse_175 ?_
                  refine lv_iconst hx hb dX16_layUse_176 ic_1 ?_
                  refine lv_iand hx hb dX16_layUse_177 ?_
                  refine lv_iconst hx hb dX16_layUse_178 ic_1 ?_
                  have J187 : ∀ (k30 : Int32), mo_layUse_J187 (σ.2.2.1 615) y20 y21 v26 k27 k29 k30 = some o93 → ∀ (H : Heap) (locs : List Loc), PM D G ad (sgM_layUse σ a2 (σ.2.2.2.1 628)) H → va_S A s.heap H locs → ∀ (ls : Array Slot), lv_has ls 15 [(0, .ref (ad 500)), (1, .int x1), (2, .int x2), (3, .int y1), (4, .long y4), (6, .int y5), (7, .long y20), (9, .int y21), (10, .int v26), (11, .int k27), (12, .int k29)] → W p l e rmM_layUse s m args below meth c0 H locs 0 0 Q (F0 m 187 ls [.int k30]) := by
                    intro k30 hf H locs hP hS ls hl
                    unfold mo_layUse_J187 at hf
                    refine lv_istore (lv' := [(13, .int k30), (0, .ref (ad 500)), (1, .int x1), (2, .int x2), (3, .int y1), (4, .long y4), (6, .int y5), (7, .long y20), (9, .int y21), (10, .int v26), (11, .int k27), (12, .int k29)]) hx hb dX16_layUse_187 hl (by decide) rfl (fun ls hl => ?_)
                    refine lv_aload_n hx hb dX16_layUse_189 rfl (lv_at hl 1 rfl) ?_
                    refine gM_15 E hK hP dX16_layUse_190 ?_
                    refine lv_iload hx hb dX16_layUse_193 (lv_at hl 9 rfl) ?_
                    refine lv_iconst hx hb dX16_layUse_195 ic_3 ?_
                    refine lv_iadd hx hb dX16_layUse_196 ?_
                    obtain ⟨v31, hv31, hf⟩ := bdP hf
                    refine p_iald hx hb hK hP dM_615 sgM_layUse_raI615 hv31 dX16_layUse_197 ?_
                    have J206 : ∀ (k32 : Int32), mo_layUse_J206 y20 y21 k27 k29 k30 k32 = some o93 → ∀ (H : Heap) (locs : List Loc), PM D G ad (sgM_layUse σ a2 (σ.2.2.2.1 628)) H → va_S A s.heap H locs → ∀ (ls : Array Slot), lv_has ls 15 [(0, .ref (ad 500)), (1, .int x1), (2, .int x2), (3, .int y1), (4, .long y4), (6, .int y5), (7, .long y20), (9, .int y21), (11, .int k27), (12, .int k29), (13, .int k30)] → W p l e rmM_layUse s m args below meth c0 H locs 0 0 Q (F0 m 206 ls [.int k32]) := by
                      intro k32 hf H locs hP hS ls hl
                      unfold mo_layUse_J206 at hf
                      refine lv_istore (lv' := [(14, .int k32), (0, .ref (ad 500)), (1, .int x1), (2, .int x2), (3, .int y1), (4, .long y4), (6, .int y5), (7, .long y20), (9, .int y21), (11, .int k27), (12, .int k29), (13, .int k30)]) hx hb dX16_layUse_206 hl (by decide) rfl (fun ls hl => ?_)
                      refine lv_iload hx hb dX16_layUse_208 (lv_at hl 10 rfl) ?_
                      have J282 : ∀ (y33 : Int64), mo_layUse_J282 y21 y33 = some o93 → ∀ (H : Heap) (locs : List Loc), PM D G ad (sgM_layUse σ a2 (σ.2.2.2.1 628)) H → va_S A s.heap H locs → ∀ (ls : Array Slot), lv_has ls 15 [(0, .ref (ad 500)), (1, .int x1), (2, .int x2), (3, .int y1), (4, .long y4), (6, .int y5), (7, .long y33), (9, .int y21)] → W p l e rmM_layUse s m args below meth c0 H locs 0 0 Q (F0 m 282 ls []) := by
                        intro y33 hf H locs hP hS ls hl
                        unfold mo_layUse_J282 at hf
                        obtain ⟨v34, hv34, hf⟩ := bdP hf
                        refine lv_iinc (v := v34) (lv' := [(9, .int v34), (0, .ref (ad 500)), (1, .int x1), (2, .int x2), (3, .int y1), (4, .long y4), (6, .int y5), (7, .long y33)]) hx hb dX16_layUse_282 hl (k := 7) rfl (Option.some.inj hv34) (by decide) rfl (fun ls hl => ?_)
                        refine lv_goto (tgt := 93) hx hb dX16_layUse_285 (by decide) ?_
                        exact ih93 _ (Option.some.inj hf).symm H locs hP hS ls (lv_sub hl [1, 2, 3, 4, 5, 6, 7, 0] rfl) KE93_0
                      refine lv_if_eq (tgt := 242) hx hb dX16_layUse_210 (by decide) (fun c35 => ?_) (fun c35 => ?_)
                      · have hf := ifT c35 hf
                        refine lv_lload hx hb dX16_layUse_242 (lv_at hl 7 rfl) ?_
                        refine lv_iload hx hb dX16_layUse_244 (lv_at hl 11 rfl) ?_
                        have J279 : ∀ (k36 : Int64) (k37 : Int64), mo_layUse_J279 y21 k36 k37 = some o93 → ∀ (H : Heap) (locs : List Loc), PM D G ad (sgM_layUse σ a2 (σ.2.2.2.1 628)) H → va_S A s.heap H locs → ∀ (ls : Array Slot), lv_has ls 15 [(0, .ref (ad 500)), (1, .int x1), (2, .int x2), (3, .int y1), (4, .long y4), (6, .int y5), (9, .int y21)] → W p l e rmM_layUse s m args below meth c0 H locs 0 0 Q (F0 m 279 ls [.long k36, .long k37]) := by
                          intro k36 k37 hf H locs hP hS ls hl
                          unfold mo_layUse_J279 at hf
                          refine lv_lmul hx hb dX16_layUse_279 ?_
                          obtain ⟨v38, hv38, hf⟩ := bdP hf
                          refine nm_l (Option.some.inj hv38) ?_
                          refine lv_lstore (lv' := [(7, .long v38), (0, .ref (ad 500)), (1, .int x1), (2, .int x2), (3, .int y1), (4, .long y4), (6, .int y5), (9, .int y21)]) hx hb dX16_layUse_280 hl (by decide) rfl (fun ls hl => ?_)
                          exact J282 v38 hf H locs hP hS ls (lv_sub hl [1, 2, 3, 4, 5, 6, 0, 7] rfl)
                        refine lv_if_eq (tgt := 264) hx hb dX16_layUse_246 (by decide) (fun c39 => ?_) (fun c39 => ?_)
                        · have hf := ifT c39 hf
                          refine lv_iload hx hb dX16_layUse_264 (lv_at hl 0 rfl) ?_
                          refine lv_if_eq (tgt := 278) hx hb dX16_layUse_266 (by decide) (fun c40 => ?_) (fun c40 => ?_)
                          · have hf := ifT c40 hf
                            refine lv_lconst hx hb dX16_layUse_278 lc_1 ?_
                            exact J279 1 y20 hf H locs hP hS ls (lv_sub hl [1, 2, 3, 4, 5, 6, 8] rfl)
                          · have hf := ifF c40 hf
                            refine lv_bipush hx hb dX16_layUse_269 bp_10 ?_
                            refine lv_iload hx hb dX16_layUse_271 (lv_at hl 9 rfl) ?_
                            refine lv_isub hx hb dX16_layUse_273 ?_
                            refine lv_i2l hx hb dX16_layUse_274 rfl ?_
                            refine lv_goto (tgt := 279) hx hb dX16_layUse_275 (by decide) ?_
                            exact J279 ((10 - k27).toInt64) y20 hf H locs hP hS ls (lv_sub hl [1, 2, 3, 4, 5, 6, 8] rfl)
                        · have hf := ifF c39 hf
                          refine lv_iload hx hb dX16_layUse_249 (lv_at hl 0 rfl) ?_
                          refine lv_if_eq (tgt := 260) hx hb dX16_layUse_251 (by decide) (fun c41 => ?_) (fun c41 => ?_)
                          · have hf := ifT c41 hf
                            refine lv_lconst hx hb dX16_layUse_260 lc_0 ?_
                            refine lv_goto (tgt := 279) hx hb dX16_layUse_261 (by decide) ?_
                            exact J279 0 y20 hf H locs hP hS ls (lv_sub hl [1, 2, 3, 4, 5, 6, 8] rfl)
                          · have hf := ifF c41 hf
                            refine lv_iload hx hb dX16_layUse_254 (lv_at hl 9 rfl) ?_
                            refine lv_i2l hx hb dX16_layUse_256 rfl ?_
                            refine lv_goto (tgt := 279) hx hb dX16_layUse_257 (by decide) ?_
                            exact J279 (k27.toInt64) y20 hf H locs hP hS ls (lv_sub hl [1, 2, 3, 4, 5, 6, 8] rfl)
                      · have hf := ifF c35 hf
                        refine lv_lload hx hb dX16_layUse_213 (lv_at hl 7 rfl) ?_
                        refine lv_iload hx hb dX16_layUse_215 (lv_at hl 11 rfl) ?_
                        have J236 : ∀ (k42 : Int64) (k43 : Int64), mo_layUse_J236 y21 k42 k43 = some o93 → ∀ (H : Heap) (locs : List Loc), PM D G ad (sgM_layUse σ a2 (σ.2.2.2.1 628)) H → va_S A s.heap H locs → ∀ (ls : Array Slot), lv_has ls 15 [(0, .ref (ad 500)), (1, .int x1), (2, .int x2), (3, .int y1), (4, .long y4), (6, .int y5), (9, .int y21)] → W p l e rmM_layUse s m args below meth c0 H locs 0 0 Q (F0 m 236 ls [.long k42, .long k43]) := by
                          intro k42 k43 hf H locs hP hS ls hl
                          unfold mo_layUse_J236 at hf
                          refine lv_lmul hx hb dX16_layUse_236 ?_
                          obtain ⟨v44, hv44, hf⟩ := bdP hf
                          refine nm_l (Option.some.inj hv44) ?_
                          refine lv_lstore (lv' := [(7, .long v44), (0, .ref (ad 500)), (1, .int x1), (2, .int x2), (3, .int y1), (4, .long y4), (6, .int y5), (9, .int y21)]) hx hb dX16_layUse_237 hl (by decide) rfl (fun ls hl => ?_)
                          refine lv_goto (tgt := 282) hx hb dX16_layUse_239 (by decide) ?_
                          exact J282 v44 hf H locs hP hS ls (lv_sub hl [1, 2, 3, 4, 5, 6, 0, 7] rfl)
                        refine lv_if_ne (tgt := 224) hx hb dX16_layUse_217 (by decide) (fun c45 => ?_) (fun c45 => ?_)
                        · have hf := ifF c45 hf
                          refine lv_iload hx hb dX16_layUse_224 (lv_at hl 0 rfl) ?_
                          refine lv_if_eq (tgt := 235) hx hb dX16_layUse_226 (by decide) (fun c46 => ?_) (fun c46 => ?_)
                          · have hf := ifT c46 hf
                            refine lv_lconst hx hb dX16_layUse_235 lc_1 ?_
                            exact J236 1 y20 hf H locs hP hS ls (lv_sub hl [1, 2, 3, 4, 5, 6, 8] rfl)
                          · have hf := ifF c46 hf
                            refine lv_ldc2 hx hb hown (hts _ q1667) dX16_layUse_229 ?_
                            refine lv_goto (tgt := 236) hx hb dX16_layUse_232 (by decide) ?_
                            exact J236 10 y20 hf H locs hP hS ls (lv_sub hl [1, 2, 3, 4, 5, 6, 8] rfl)
                        · have hf := ifT c45 hf
                          refine lv_lconst hx hb dX16_layUse_220 lc_0 ?_
                          refine lv_goto (tgt := 236) hx hb dX16_layUse_221 (by decide) ?_
                          exact J236 0 y20 hf H locs hP hS ls (lv_sub hl [1, 2, 3, 4, 5, 6, 8] rfl)
                    refine lv_if_le (tgt := 205) hx hb dX16_layUse_198 (by decide) (fun c47 => ?_) (fun c47 => ?_)
                    · have hf := ifT c47 hf
                      refine lv_iconst hx hb dX16_layUse_205 ic_0 ?_
                      exact J206 0 hf H locs hP hS ls (lv_sub hl [1, 2, 3, 4, 5, 6, 7, 8, 10, 11, 0] rfl)
                    · have hf := ifF c47 hf
                      refine lv_iconst hx hb dX16_layUse_201 ic_1 ?_
                      refine lv_goto (tgt := 206) hx hb dX16_layUse_202 (by decide) ?_
                      exact J206 1 hf H locs hP hS ls (lv_sub hl [1, 2, 3, 4, 5, 6, 7, 8, 10, 11, 0] rfl)
                  refine lv_icmp_ne (tgt := 186) hx hb dX16_layUse_179 (by decide) (fun c48 => ?_) (fun c48 => ?_)
                  · have hf := ifF c48 hf
                    refine lv_iconst hx hb dX16_layUse_186 ic_0 ?_
                    exact J187 0 hf H locs hP hS ls (lv_sub hl [1, 2, 3, 4, 5, 6, 7, 8, 9, 10, 0] rfl)
                  · have hf := ifT c48 hf
                    refine lv_iconst hx hb dX16_layUse_182 ic_1 ?_
                    refine lv_goto (tgt := 187) hx hb dX16_layUse_183 (by decide) ?_
                    exact J187 1 hf H locs hP hS ls (lv_sub hl [1, 2, 3, 4, 5, 6, 7, 8, 9, 10, 0] rfl)
                have J169 : mo_layUse_J169 (σ.2.2.1 615) y1 y20 y21 v26 k27 = some o93 → ∀ (H : Heap) (locs : List Loc), PM D G ad (sgM_layUse σ a2 (σ.2.2.2.1 628)) H → va_S A s.heap H locs → ∀ (ls : Array Slot), lv_has ls 15 [(0, .ref (ad 500)), (1, .int x1), (2, .int x2), (3, .int y1), (4, .long y4), (6, .int y5), (7, .long y20), (9, .int y21), (10, .int v26), (11, .int k27)] → W p l e rmM_layUse s m args below meth c0 H locs 0 0 Q (F0 m 169 ls []) := by
                  intro  hf H locs hP hS ls hl
                  unfold mo_layUse_J169 at hf
                  refine lv_iconst hx hb dX16_layUse_169 ic_0 ?_
                  exact J170 0 hf H locs hP hS ls (lv_sub hl [0, 1, 2, 3, 4, 5, 6, 7, 8, 9] rfl)
                refine lv_if_lt (tgt := 169) hx hb dX16_layUse_144 (by decide) (fun c49 => ?_) (fun c49 => ?_)
                · have hf := ifT c49 hf
                  exact J169  hf H locs hP hS ls (lv_sub hl [1, 2, 3, 4, 5, 6, 7, 8, 9, 0] rfl)
                · have hf := ifF c49 hf
                  refine lv_iload hx hb dX16_layUse_147 (lv_at hl 6 rfl) ?_
                  refine lv_aload_n hx hb dX16_layUse_149 rfl (lv_at hl 1 rfl) ?_
                  refine gM_15 E hK hP dX16_layUse_150 ?_
                  refine lv_iload hx hb dX16_layUse_153 (lv_at hl 9 rfl) ?_
                  refine lv_iconst hx hb dX16_layUse_155 ic_4 ?_
                  refine lv_iadd hx hb dX16_layUse_156 ?_
                  obtain ⟨v50, hv50, hf⟩ := bdP hf
                  refine p_iald hx hb hK hP dM_615 sgM_layUse_raI615 hv50 dX16_layUse_157 ?_
                  refine lv_ishr hx hb dX16_layUse_158 ?_
                  refine lv_iconst hx hb dX16_layUse_159 ic_1 ?_
                  refine lv_iand hx hb dX16_layUse_160 ?_
                  refine lv_iconst hx hb dX16_layUse_161 ic_1 ?_
                  refine lv_icmp_ne (tgt := 169) hx hb dX16_layUse_162 (by decide) (fun c51 => ?_) (fun c51 => ?_)
                  · have hf := ifF c51 hf
                    exact J169  hf H locs hP hS ls (lv_sub hl [1, 2, 3, 4, 5, 6, 7, 8, 9, 0] rfl)
                  · have hf := ifT c51 hf
                    refine lv_iconst hx hb dX16_layUse_165 ic_1 ?_
                    refine lv_goto (tgt := 170) hx hb dX16_layUse_166 (by decide) ?_
                    exact J170 1 hf H locs hP hS ls (lv_sub hl [1, 2, 3, 4, 5, 6, 7, 8, 9, 0] rfl)
              refine lv_icmp_ne (tgt := 124) hx hb dX16_layUse_117 (by decide) (fun c52 => ?_) (fun c52 => ?_)
              · have hf := ifF c52 hf
                refine lv_aload_n hx hb dX16_layUse_124 rfl (lv_at hl 1 rfl) ?_
                refine gM_15 E hK hP dX16_layUse_125 ?_
                refine lv_iload hx hb dX16_layUse_128 (lv_at hl 0 rfl) ?_
                refine lv_iconst hx hb dX16_layUse_130 ic_3 ?_
                refine lv_iadd hx hb dX16_layUse_131 ?_
                obtain ⟨v53, hv53, hf⟩ := bdP hf
                refine p_iald hx hb hK hP dM_615 sgM_layUse_raI615 hv53 dX16_layUse_132 ?_
                exact J133 v53 hf H locs hP hS ls (lv_sub hl [1, 2, 3, 4, 5, 6, 7, 8, 0] rfl)
              · have hf := ifT c52 hf
                refine lv_iload_n hx hb dX16_layUse_120 rfl (lv_at hl 3 rfl) ?_
                refine lv_goto (tgt := 133) hx hb dX16_layUse_121 (by decide) ?_
                exact J133 x2 hf H locs hP hS ls (lv_sub hl [1, 2, 3, 4, 5, 6, 7, 8, 0] rfl)
          obtain ⟨ex93, hlp93, hf⟩ := bdP hf
          refine LP93 (y19, 0) ex93 hlp93 H locs hP hS ls (lv_sub hl [1, 2, 3, 4, 5, 6, 7, 0] rfl) ?_
          intro y54 hex93 H locs hP hS ls hl
          subst ex93
          refine lv_lload hx hb dX16_layUse_288 (lv_at hl 4 rfl) ?_
          refine lv_lload hx hb dX16_layUse_290 (lv_at hl 6 rfl) ?_
          refine lv_ladd hx hb dX16_layUse_292 ?_
          obtain ⟨v55, hv55, hf⟩ := bdP hf
          refine nm_l (Option.some.inj hv55) ?_
          refine lv_lstore (lv' := [(4, .long v55), (0, .ref (ad 500)), (1, .int x1), (2, .int x2), (3, .int y1), (6, .int y5), (7, .long y54)]) hx hb dX16_layUse_293 hl (by decide) rfl (fun ls hl => ?_)
          obtain ⟨v56, hv56, hf⟩ := bdP hf
          refine lv_iinc (v := v56) (lv' := [(6, .int v56), (4, .long v55), (0, .ref (ad 500)), (1, .int x1), (2, .int x2), (3, .int y1), (7, .long y54)]) hx hb dX16_layUse_295 hl (k := 5) rfl (Option.some.inj hv56) (by decide) rfl (fun ls hl => ?_)
          refine lv_goto (tgt := 16) hx hb dX16_layUse_298 (by decide) ?_
          exact ih16 _ (Option.some.inj hf).symm H locs hP hS ls (lv_sub hl [2, 3, 4, 5, 1, 0] rfl) KE16_0
      obtain ⟨ex16, hlp16, hf⟩ := bdP hf
      refine LP16 (0, 0) ex16 hlp16 H locs hP hS ls (lv_sub hl [2, 3, 4, 5, 1, 0] rfl) ?_
      intro y57 hex16 H locs hP hS ls hl
      subst ex16
      refine lv_aload_n hx hb dX16_layUse_301 rfl (lv_at hl 0 rfl) ?_
      refine gM_27 E hK hP dX16_layUse_302 ?_
      refine lv_iload_n hx hb dX16_layUse_305 rfl (lv_at hl 3 rfl) ?_
      refine lv_lload hx hb dX16_layUse_306 (lv_at hl 4 rfl) ?_
      obtain ⟨a58, ha58, hf⟩ := bdP hf
      refine p_last hx hb hK hP hS (hA _ (PA_c dM_627)) dM_627 sgM_layUse_raL627 ha58 sgM_layUse_aL627 dX16_layUse_308 (fun H locs hP hS => ?_)
      obtain ⟨v59, hv59, hf⟩ := bdP hf
      refine lv_iinc (v := v59) (lv' := [(3, .int v59), (0, .ref (ad 500)), (1, .int x1), (2, .int x2), (4, .long y57)]) hx hb dX16_layUse_309 hl (k := 3) rfl (Option.some.inj hv59) (by decide) rfl (fun ls hl => ?_)
      refine lv_goto (tgt := 2) hx hb dX16_layUse_312 (by decide) ?_
      exact ih2 _ (Option.some.inj hf).symm H locs hP hS ls (lv_sub hl [1, 2, 3, 0] rfl) KE2_0
  obtain ⟨ex2, hlp2, hf⟩ := bdP hf
  refine LP2 (0, (σ.2.2.2.1 627)) ex2 hlp2 H locs hP hS ls (lv_sub hl [1, 2, 3, 0] rfl) ?_
  intro a60 hex2 H locs hP hS ls hl
  subst ex2
  refine lv_aload_n hx hb dX16_layUse_315 rfl (lv_at hl 0 rfl) ?_
  obtain ⟨a61, u62, hf⟩ := bdP hf
  refine cM_layLikely E hK hP hS hA sgM_layUse_rzI523 sgM_layUse_raI611 sgM_layUse_raI624 sgM_layUse_raI625 sgM_layUse_raL627 sgM_layUse_raL628 u62 ⟨Nat.le_of_ble_eq_true rfl, Nat.le_of_ble_eq_true rfl⟩ ⟨Nat.zero_le _, Nat.zero_le _⟩ hl.1 (Nat.le_of_ble_eq_true rfl) dX16_layUse_316 (fun H locs hP hS => ?_)
  rw [sgM_layUse_aL628] at hP
  cases hf
  rw [hQ]; exact p_vret hx hb hr hlk hK hP hS dX16_layUse_319
theorem kM_layUse (l : Launch) (D : va_G) (G : Nat → ClassId) (ad : Nat → Nat) (σ : Sto) {x1 : Int32} {x2 : Int32} {w_aL627 : Nat → Int64} {w_aL628 : Nat → Int64} (hf : mo_layUse (σ.1 522) (σ.1 523) (σ.2.2.1 611) (σ.2.2.1 614) (σ.2.2.1 615) (σ.2.2.1 616) (σ.2.2.1 624) (σ.2.2.1 625) (σ.2.2.2.1 627) (σ.2.2.2.1 628) x1 x2 = some (w_aL627, w_aL628)) : CtV l D clsA G dscM ad yX16_layUse (ws_ yX16_layUse cX16_layUse 15 (Option.none : Option Jvm.ClassFile.FieldType)) rmM_layUse [.ref (ad 500), .int x1, .int x2] σ (sgM_layUse σ w_aL627 w_aL628) :=
  p_ctV (by decide +kernel) (Nat.le_of_ble_eq_true rfl) (fun p e s m below meth c0 ls A E hP hK hA hS hl => wkM_layUse E hK hA hf rfl hP hS hl)
theorem cM_layUse (E : EN p s m args meth c0 RX16 cc nL ret) (hK : KK D clsA G s) (hP : PM D G ad σ H) (hS : va_S A s.heap H locs) (hA : ∀ q, PA dscM ad s.heap.size q → A q) {x1 : Int32} {x2 : Int32} {w_aL627 : Nat → Int64} {w_aL628 : Nat → Int64} {z_worlds : Int32} (e_zI522 : σ.1 522 = z_worlds) {z_knowings : Int32} (e_zI523 : σ.1 523 = z_knowings) {a_many : Nat → Int32} (e_aI611 : σ.2.2.1 611 = a_many) {a_causeOf10 : Nat → Int32} (e_aI614 : σ.2.2.1 614 = a_causeOf10) {a_road : Nat → Int32} (e_aI615 : σ.2.2.1 615 = a_road) {a_doubtful : Nat → Int32} (e_aI616 : σ.2.2.1 616 = a_doubtful) {a_three : Nat → Int32} (e_aI624 : σ.2.2.1 624 = a_three) {a_turn : Nat → Int32} (e_aI625 : σ.2.2.1 625 = a_turn) {a_use : Nat → Int64} (e_aL627 : σ.2.2.2.1 627 = a_use) {a_likely : Nat → Int64} (e_aL628 : σ.2.2.2.1 628 = a_likely) (hu : mo_layUse z_worlds z_knowings a_many a_causeOf10 a_road a_doubtful a_three a_turn a_use a_likely x1 x2 = some (w_aL627, w_aL628)) (hR : rmM_layUse.frames + 1 ≤ R.frames ∧ 8 + (15 + 11) + rmM_layUse.locals ≤ R.locals) (hcs : cells ≤ R.cells ∧ slots ≤ R.slots) (hsz : ls.size = nL) (hW : (rest.map fun v => v.category).sum ≤ 8) (hdg : decode cc pc = .ok (.invokevirtual 267, 3)) (kk : ∀ (H1 : Heap) (locs1 : List Loc), PM D G ad (aL (aL σ 627 w_aL627) 628 w_aL628) H1 → va_S A s.heap H1 locs1 → W p l e R s m args below meth c0 H1 locs1 cells slots Q (F0 m (pc + 3) ls rest)) : W p l e R s m args below meth c0 H locs cells slots Q (F0 m pc ls (.int x2 :: .int x1 :: .ref (ad 500) :: rest)) := by
  subst e_zI522
  subst e_zI523
  subst e_aI611
  subst e_aI614
  subst e_aI615
  subst e_aI616
  subst e_aI624
  subst e_aI625
  subst e_aL627
  subst e_aL628
  exact p_callV (As := [.int x1, .int x2]) (rest := rest) E.1 hK hP hS hA (kM_layUse l D G ad σ hu) (cwV 2 E.1.2.2.2.2 (lw_V q1663 q1665 qs50 q142 q1666) rfl rfl rfl (by decide +kernel) hR) dM_500 rfl rfl rfl hsz rfl hW hdg hcs kk
/-! layWeights()V -/
def sgM_layWeights (σ : Sto) (w0 : Nat → Int64) (w1 : Nat → Int64) (w2 : Nat → Int64) : Sto := aL (aL (aL σ 626 w0) 627 w1) 628 w2
theorem sgM_layWeights_self (σ : Sto) : sgM_layWeights σ (σ.2.2.2.1 626) (σ.2.2.2.1 627) (σ.2.2.2.1 628) = σ := by
  unfold sgM_layWeights
  simp only [zI_self, zL_self, aI_self, aL_self]
theorem sgM_layWeights_aL626 {σ : Sto} {w0 : Nat → Int64} {w1 : Nat → Int64} {w2 : Nat → Int64} {g : Nat → Int64} : aL (sgM_layWeights σ w0 w1 w2) 626 g = sgM_layWeights σ g w1 w2 := (aL_comm _ (by decide) _ _).trans (congrArg (fun z => aL z 628 w2) ((aL_comm _ (by decide) _ _).trans (congrArg (fun z => aL z 627 w1) (aL_aL _ 626 _ _))))
theorem sgM_layWeights_aL627 {σ : Sto} {w0 : Nat → Int64} {w1 : Nat → Int64} {w2 : Nat → Int64} {g : Nat → Int64} : aL (sgM_layWeights σ w0 w1 w2) 627 g = sgM_layWeights σ w0 g w2 := (aL_comm _ (by decide) _ _).trans (congrArg (fun z => aL z 628 w2) (aL_aL _ 627 _ _))
theorem sgM_layWeights_aL628 {σ : Sto} {w0 : Nat → Int64} {w1 : Nat → Int64} {w2 : Nat → Int64} {g : Nat → Int64} : aL (sgM_layWeights σ w0 w1 w2) 628 g = sgM_layWeights σ w0 w1 g := aL_aL _ 628 _ _
theorem sgM_layWeights_rzI522 {σ : Sto} {w0 : Nat → Int64} {w1 : Nat → Int64} {w2 : Nat → Int64} : (sgM_layWeights σ w0 w1 w2).1 522 = σ.1 522 := rfl
theorem sgM_layWeights_rzI523 {σ : Sto} {w0 : Nat → Int64} {w1 : Nat → Int64} {w2 : Nat → Int64} : (sgM_layWeights σ w0 w1 w2).1 523 = σ.1 523 := rfl
theorem sgM_layWeights_raI611 {σ : Sto} {w0 : Nat → Int64} {w1 : Nat → Int64} {w2 : Nat → Int64} : (sgM_layWeights σ w0 w1 w2).2.2.1 611 = σ.2.2.1 611 := rfl
theorem sgM_layWeights_raI614 {σ : Sto} {w0 : Nat → Int64} {w1 : Nat → Int64} {w2 : Nat → Int64} : (sgM_layWeights σ w0 w1 w2).2.2.1 614 = σ.2.2.1 614 := rfl
theorem sgM_layWeights_raI615 {σ : Sto} {w0 : Nat → Int64} {w1 : Nat → Int64} {w2 : Nat → Int64} : (sgM_layWeights σ w0 w1 w2).2.2.1 615 = σ.2.2.1 615 := rfl
theorem sgM_layWeights_raI616 {σ : Sto} {w0 : Nat → Int64} {w1 : Nat → Int64} {w2 : Nat → Int64} : (sgM_layWeights σ w0 w1 w2).2.2.1 616 = σ.2.2.1 616 := rfl
theorem sgM_layWeights_raI624 {σ : Sto} {w0 : Nat → Int64} {w1 : Nat → Int64} {w2 : Nat → Int64} : (sgM_layWeights σ w0 w1 w2).2.2.1 624 = σ.2.2.1 624 := rfl
theorem sgM_layWeights_raI625 {σ : Sto} {w0 : Nat → Int64} {w1 : Nat → Int64} {w2 : Nat → Int64} : (sgM_layWeights σ w0 w1 w2).2.2.1 625 = σ.2.2.1 625 := rfl
theorem sgM_layWeights_raL626 {σ : Sto} {w0 : Nat → Int64} {w1 : Nat → Int64} {w2 : Nat → Int64} : (sgM_layWeights σ w0 w1 w2).2.2.2.1 626 = w0 := rfl
theorem sgM_layWeights_raL627 {σ : Sto} {w0 : Nat → Int64} {w1 : Nat → Int64} {w2 : Nat → Int64} : (sgM_layWeights σ w0 w1 w2).2.2.2.1 627 = w1 := rfl
theorem sgM_layWeights_raL628 {σ : Sto} {w0 : Nat → Int64} {w1 : Nat → Int64} {w2 : Nat → Int64} : (sgM_layWeights σ w0 w1 w2).2.2.2.1 628 = w2 := rfl
abbrev rmM_layWeights : Room := { frames := 4, cells := 0, slots := 0, locals := 102 }
set_option maxHeartbeats 4000000 in
theorem wkM_layWeights  {w_aL626 : Nat → Int64} {w_aL627 : Nat → Int64} {w_aL628 : Nat → Int64} (E : EN p s m args meth c0 RX16 cX16_layWeights 2 (Option.none : Option Jvm.ClassFile.FieldType)) (hK : KK D clsA G s) (hA : ∀ q, PA dscM ad s.heap.size q → A q) (hf : mo_layWeights (σ.1 522) (σ.1 523) (σ.2.2.1 611) (σ.2.2.1 614) (σ.2.2.1 615) (σ.2.2.1 616) (σ.2.2.1 624) (σ.2.2.1 625) (σ.2.2.2.1 626) (σ.2.2.2.1 627) (σ.2.2.2.1 628) = some (w_aL626, w_aL627, w_aL628)) (hQ : Q = MQ below (va_Qv (fun (_ : Unit) => True) (fun _ t => PM D G ad (sgM_layWeights σ w_aL626 w_aL627 w_aL628) t.heap ∧ KK D clsA G t) A) args s 0 0 A) (hP : PM D G ad σ H) (hS : va_S A s.heap H locs) (hl : lv_has ls 2 [(0, .ref (ad 500))]) : W p l e rmM_layWeights s m args below meth c0 H locs 0 0 Q (F0 m 0 ls []) := by
  obtain ⟨⟨hx, hb, hml, hown, hts⟩, hr, hlk⟩ := id E
  have hP := hP.to (sgM_layWeights_self σ).symm
  unfold mo_layWeights at hf
  refine lv_aload_n hx hb dX16_layWeights_0 rfl (lv_at hl 0 rfl) ?_
  refine lv_iconst hx hb dX16_layWeights_1 ic_m1 ?_
  refine lv_iconst hx hb dX16_layWeights_2 ic_0 ?_
  obtain ⟨⟨a1, a2⟩, u3, hf⟩ := bdP hf
  dsimp only at hf
  refine cM_layUse E hK hP hS hA sgM_layWeights_rzI522 sgM_layWeights_rzI523 sgM_layWeights_raI611 sgM_layWeights_raI614 sgM_layWeights_raI615 sgM_layWeights_raI616 sgM_layWeights_raI624 sgM_layWeights_raI625 sgM_layWeights_raL627 sgM_layWeights_raL628 u3 ⟨Nat.le_of_ble_eq_true rfl, Nat.le_of_ble_eq_true rfl⟩ ⟨Nat.zero_le _, Nat.zero_le _⟩ hl.1 (Nat.le_of_ble_eq_true rfl) dX16_layWeights_3 (fun H locs hP hS => ?_)
  rw [sgM_layWeights_aL627, sgM_layWeights_aL628] at hP
  refine lv_iconst hx hb dX16_layWeights_6 ic_0 ?_
  refine lv_istore_n (lv' := [(1, .int 0), (0, .ref (ad 500))]) hx hb dX16_layWeights_7 rfl hl (by decide) rfl (fun ls hl => ?_)
  have LP8 : ∀ (st8 : Int32 × (Nat → Int64)) (ex8 : ((Nat → Int64))), loop (mo_layWeights_L8 (σ.1 522) a1) st8 = some ex8 → ∀ (H : Heap) (locs : List Loc), PM D G ad (sgM_layWeights σ (st8.2) a1 a2) H → va_S A s.heap H locs → ∀ (ls : Array Slot), lv_has ls 2 [(0, .ref (ad 500)), (1, .int (st8.1))] → (∀ (a13 : Nat → Int64), ex8 = a13 → ∀ (H : Heap) (locs : List Loc), PM D G ad (sgM_layWeights σ a13 a1 a2) H → va_S A s.heap H locs → ∀ (ls : Array Slot), lv_has ls 2 [] → W p l e rmM_layWeights s m args below meth c0 H locs 0 0 Q (F0 m 44 ls [])) → W p l e rmM_layWeights s m args below meth c0 H locs 0 0 Q (F0 m 8 ls []) := by
    refine loop_P (fun st8 ex8 o8 hf ih8 hx8 => ?_)
    obtain ⟨y4, a5⟩ := st8
    intro H locs (hP : PM D G ad (sgM_layWeights σ a5 a1 a2) H) hS ls (hl : lv_has ls 2 [(0, .ref (ad 500)), (1, .int y4)]) KE8_0
    dsimp only [mo_layWeights_L8] at hf
    refine lv_iload_n hx hb dX16_layWeights_8 rfl (lv_at hl 1 rfl) ?_
    refine lv_bipush hx hb dX16_layWeights_9 bp_64 ?_
    refine lv_icmp_ge (tgt := 44) hx hb dX16_layWeights_11 (by decide) (fun c6 => ?_) (fun c6 => ?_)
    · have hf := ifT c6 hf
      exact KE8_0 _ (hx8 _ (Option.some.inj hf).symm).symm H locs hP hS ls (lv_sub hl [] rfl)
    · have hf := ifF c6 hf
      refine lv_aload_n hx hb dX16_layWeights_14 rfl (lv_at hl 0 rfl) ?_
      refine gM_26 E hK hP dX16_layWeights_15 ?_
      refine lv_iload_n hx hb dX16_layWeights_18 rfl (lv_at hl 1 rfl) ?_
      refine lv_iload_n hx hb dX16_layWeights_19 rfl (lv_at hl 1 rfl) ?_
      refine lv_aload_n hx hb dX16_layWeights_20 rfl (lv_at hl 0 rfl) ?_
      refine gM_22 (v := (σ.1 522)) E hK hP sgM_layWeights_rzI522 dX16_layWeights_21 ?_
      have J37 : ∀ (k7 : Int64) (k8 : Int32), mo_layWeights_J37 y4 a5 k7 k8 = some o8 → ∀ (H : Heap) (locs : List Loc), PM D G ad (sgM_layWeights σ a5 a1 a2) H → va_S A s.heap H locs → ∀ (ls : Array Slot), lv_has ls 2 [(0, .ref (ad 500)), (1, .int y4)] → W p l e rmM_layWeights s m args below meth c0 H locs 0 0 Q (F0 m 37 ls [.long k7, .int k8, .ref (ad 626)]) := by
        intro k7 k8 hf H locs hP hS ls hl
        unfold mo_layWeights_J37 at hf
        obtain ⟨a9, ha9, hf⟩ := bdP hf
        refine p_last hx hb hK hP hS (hA _ (PA_c dM_626)) dM_626 sgM_layWeights_raL626 ha9 sgM_layWeights_aL626 dX16_layWeights_37 (fun H locs hP hS => ?_)
        obtain ⟨v10, hv10, hf⟩ := bdP hf
        refine lv_iinc (v := v10) (lv' := [(1, .int v10), (0, .ref (ad 500))]) hx hb dX16_layWeights_38 hl (k := 1) rfl (Option.some.inj hv10) (by decide) rfl (fun ls hl => ?_)
        refine lv_goto (tgt := 8) hx hb dX16_layWeights_41 (by decide) ?_
        exact ih8 _ (Option.some.inj hf).symm H locs hP hS ls (lv_sub hl [1, 0] rfl) KE8_0
      refine lv_icmp_ge (tgt := 36) hx hb dX16_layWeights_24 (by decide) (fun c11 => ?_) (fun c11 => ?_)
      · have hf := ifT c11 hf
        refine lv_lconst hx hb dX16_layWeights_36 lc_0 ?_
        exact J37 0 y4 hf H locs hP hS ls (lv_sub hl [0, 1] rfl)
      · have hf := ifF c11 hf
        refine lv_aload_n hx hb dX16_layWeights_27 rfl (lv_at hl 0 rfl) ?_
        refine gM_27 E hK hP dX16_layWeights_28 ?_
        refine lv_iload_n hx hb dX16_layWeights_31 rfl (lv_at hl 1 rfl) ?_
        obtain ⟨v12, hv12, hf⟩ := bdP hf
        refine p_lald hx hb hK hP dM_627 sgM_layWeights_raL627 hv12 dX16_layWeights_32 ?_
        refine lv_goto (tgt := 37) hx hb dX16_layWeights_33 (by decide) ?_
        exact J37 v12 y4 hf H locs hP hS ls (lv_sub hl [0, 1] rfl)
  obtain ⟨ex8, hlp8, hf⟩ := bdP hf
  refine LP8 (0, (σ.2.2.2.1 626)) ex8 hlp8 H locs hP hS ls (lv_sub hl [1, 0] rfl) ?_
  intro a13 hex8 H locs hP hS ls hl
  subst ex8
  cases hf
  rw [hQ]; exact p_vret hx hb hr hlk hK hP hS dX16_layWeights_44
theorem kM_layWeights (l : Launch) (D : va_G) (G : Nat → ClassId) (ad : Nat → Nat) (σ : Sto) {w_aL626 : Nat → Int64} {w_aL627 : Nat → Int64} {w_aL628 : Nat → Int64} (hf : mo_layWeights (σ.1 522) (σ.1 523) (σ.2.2.1 611) (σ.2.2.1 614) (σ.2.2.1 615) (σ.2.2.1 616) (σ.2.2.1 624) (σ.2.2.1 625) (σ.2.2.2.1 626) (σ.2.2.2.1 627) (σ.2.2.2.1 628) = some (w_aL626, w_aL627, w_aL628)) : CtV l D clsA G dscM ad yX16_layWeights (ws_ yX16_layWeights cX16_layWeights 2 (Option.none : Option Jvm.ClassFile.FieldType)) rmM_layWeights [.ref (ad 500)] σ (sgM_layWeights σ w_aL626 w_aL627 w_aL628) :=
  p_ctV (by decide +kernel) (Nat.le_of_ble_eq_true rfl) (fun p e s m below meth c0 ls A E hP hK hA hS hl => wkM_layWeights E hK hA hf rfl hP hS hl)
theorem cM_layWeights (E : EN p s m args meth c0 RX16 cc nL ret) (hK : KK D clsA G s) (hP : PM D G ad σ H) (hS : va_S A s.heap H locs) (hA : ∀ q, PA dscM ad s.heap.size q → A q) {w_aL626 : Nat → Int64} {w_aL627 : Nat → Int64} {w_aL628 : Nat → Int64} {z_worlds : Int32} (e_zI522 : σ.1 522 = z_worlds) {z_knowings : Int32} (e_zI523 : σ.1 523 = z_knowings) {a_many : Nat → Int32} (e_aI611 : σ.2.2.1 611 = a_many) {a_causeOf10 : Nat → Int32} (e_aI614 : σ.2.2.1 614 = a_causeOf10) {a_road : Nat → Int32} (e_aI615 : σ.2.2.1 615 = a_road) {a_doubtful : Nat → Int32} (e_aI616 : σ.2.2.1 616 = a_doubtful) {a_three : Nat → Int32} (e_aI624 : σ.2.2.1 624 = a_three) {a_turn : Nat → Int32} (e_aI625 : σ.2.2.1 625 = a_turn) {a_weight : Nat → Int64} (e_aL626 : σ.2.2.2.1 626 = a_weight) {a_use : Nat → Int64} (e_aL627 : σ.2.2.2.1 627 = a_use) {a_likely : Nat → Int64} (e_aL628 : σ.2.2.2.1 628 = a_likely) (hu : mo_layWeights z_worlds z_knowings a_many a_causeOf10 a_road a_doubtful a_three a_turn a_weight a_use a_likely = some (w_aL626, w_aL627, w_aL628)) (hR : rmM_layWeights.frames + 1 ≤ R.frames ∧ 8 + (2 + 11) + rmM_layWeights.locals ≤ R.locals) (hcs : cells ≤ R.cells ∧ slots ≤ R.slots) (hsz : ls.size = nL) (hW : (rest.map fun v => v.category).sum ≤ 8) (hdg : decode cc pc = .ok (.invokevirtual 256, 3)) (kk : ∀ (H1 : Heap) (locs1 : List Loc), PM D G ad (aL (aL (aL σ 626 w_aL626) 627 w_aL627) 628 w_aL628) H1 → va_S A s.heap H1 locs1 → W p l e R s m args below meth c0 H1 locs1 cells slots Q (F0 m (pc + 3) ls rest)) : W p l e R s m args below meth c0 H locs cells slots Q (F0 m pc ls (.ref (ad 500) :: rest)) := by
  subst e_zI522
  subst e_zI523
  subst e_aI611
  subst e_aI614
  subst e_aI615
  subst e_aI616
  subst e_aI624
  subst e_aI625
  subst e_aL626
  subst e_aL627
  subst e_aL628
  exact p_callV (As := []) (rest := rest) E.1 hK hP hS hA (kM_layWeights l D G ad σ hu) (cwV 0 E.1.2.2.2.2 (lw_V q1659 q1661 qs49 q142 q1662) rfl rfl rfl (by decide +kernel) hR) dM_500 rfl rfl rfl hsz rfl hW hdg hcs kk
/-! keep()V -/
def sgM_keep (σ : Sto) (w0 : Int32) (w1 : Int32) (w2 : Int32) (w3 : Int32) (w4 : Int32) (w5 : Nat → Int32) (w6 : Nat → Int32) (w7 : Nat → Int32) (w8 : Nat → Int32) (w9 : Nat → Int32) (w10 : Nat → Int32) (w11 : Nat → Int32) (w12 : Nat → Int32) (w13 : Nat → Int32) (w14 : Nat → Int32) (w15 : Nat → Int32) (w16 : Nat → Int32) (w17 : Nat → Int32) (w18 : Nat → Int32) (w19 : Nat → Int64) (w20 : Nat → Int64) (w21 : Nat → Int64) : Sto := aL (aL (aL (aI (aI (aI (aI (aI (aI (aI (aI (aI (aI (aI (aI (aI (aI (zI (zI (zI (zI (zI σ 522 w0) 523 w1) 541 w2) 543 w3) 554 w4) 611 w5) 612 w6) 613 w7) 614 w8) 615 w9) 616 w10) 617 w11) 618 w12) 620 w13) 621 w14) 624 w15) 625 w16) 632 w17) 640 w18) 626 w19) 627 w20) 628 w21
theorem sgM_keep_self (σ : Sto) : sgM_keep σ (σ.1 522) (σ.1 523) (σ.1 541) (σ.1 543) (σ.1 554) (σ.2.2.1 611) (σ.2.2.1 612) (σ.2.2.1 613) (σ.2.2.1 614) (σ.2.2.1 615) (σ.2.2.1 616) (σ.2.2.1 617) (σ.2.2.1 618) (σ.2.2.1 620) (σ.2.2.1 621) (σ.2.2.1 624) (σ.2.2.1 625) (σ.2.2.1 632) (σ.2.2.1 640) (σ.2.2.2.1 626) (σ.2.2.2.1 627) (σ.2.2.2.1 628) = σ := by
  unfold sgM_keep
  simp only [zI_self, zL_self, aI_self, aL_self]
theorem sgM_keep_zI522 {σ : Sto} {w0 : Int32} {w1 : Int32} {w2 : Int32} {w3 : Int32} {w4 : Int32} {w5 : Nat → Int32} {w6 : Nat → Int32} {w7 : Nat → Int32} {w8 : Nat → Int32} {w9 : Nat → Int32} {w10 : Nat → Int32} {w11 : Nat → Int32} {w12 : Nat → Int32} {w13 : Nat → Int32} {w14 : Nat → Int32} {w15 : Nat → Int32} {w16 : Nat → Int32} {w17 : Nat → Int32} {w18 : Nat → Int32} {w19 : Nat → Int64} {w20 : Nat → Int64} {w21 : Nat → Int64} {g : Int32} : zI (sgM_keep σ w0 w1 w2 w3 w4 w5 w6 w7 w8 w9 w10 w11 w12 w13 w14 w15 w16 w17 w18 w19 w20 w21) 522 g = sgM_keep σ g w1 w2 w3 w4 w5 w6 w7 w8 w9 w10 w11 w12 w13 w14 w15 w16 w17 w18 w19 w20 w21 := (cm_zI_aL _ _ _ _ _).trans (congrArg (fun z => aL z 628 w21) ((cm_zI_aL _ _ _ _ _).trans (congrArg (fun z => aL z 627 w20) ((cm_zI_aL _ _ _ _ _).trans (congrArg (fun z => aL z 626 w19) ((cm_zI_aI _ _ _ _ _).trans (congrArg (fun z => aI z 640 w18) ((cm_zI_aI _ _ _ _ _).trans (congrArg (fun z => aI z 632 w17) ((cm_zI_aI _ _ _ _ _).trans (congrArg (fun z => aI z 625 w16) ((cm_zI_aI _ _ _ _ _).trans (congrArg (fun z => aI z 624 w15) ((cm_zI_aI _ _ _ _ _).trans (congrArg (fun z => aI z 621 w14) ((cm_zI_aI _ _ _ _ _).trans (congrArg (fun z => aI z 620 w13) ((cm_zI_aI _ _ _ _ _).trans (congrArg (fun z => aI z 618 w12) ((cm_zI_aI _ _ _ _ _).trans (congrArg (fun z => aI z 617 w11) ((cm_zI_aI _ _ _ _ _).trans (congrArg (fun z => aI z 616 w10) ((cm_zI_aI _ _ _ _ _).trans (congrArg (fun z => aI z 615 w9) ((cm_zI_aI _ _ _ _ _).trans (congrArg (fun z => aI z 614 w8) ((cm_zI_aI _ _ _ _ _).trans (congrArg (fun z => aI z 613 w7) ((cm_zI_aI _ _ _ _ _).trans (congrArg (fun z => aI z 612 w6) ((cm_zI_aI _ _ _ _ _).trans (congrArg (fun z => aI z 611 w5) ((zI_comm _ (by decide) _ _).trans (congrArg (fun z => zI z 554 w4) ((zI_comm _ (by decide) _ _).trans (congrArg (fun z => zI z 543 w3) ((zI_comm _ (by decide) _ _).trans (congrArg (fun z => zI z 541 w2) ((zI_comm _ (by decide) _ _).trans (congrArg (fun z => zI z 523 w1) (zI_zI _ 522 _ _))))))))))))))))))))))))))))))))))))))))))
theorem sgM_keep_zI523 {σ : Sto} {w0 : Int32} {w1 : Int32} {w2 : Int32} {w3 : Int32} {w4 : Int32} {w5 : Nat → Int32} {w6 : Nat → Int32} {w7 : Nat → Int32} {w8 : Nat → Int32} {w9 : Nat → Int32} {w10 : Nat → Int32} {w11 : Nat → Int32} {w12 : Nat → Int32} {w13 : Nat → Int32} {w14 : Nat → Int32} {w15 : Nat → Int32} {w16 : Nat → Int32} {w17 : Nat → Int32} {w18 : Nat → Int32} {w19 : Nat → Int64} {w20 : Nat → Int64} {w21 : Nat → Int64} {g : Int32} : zI (sgM_keep σ w0 w1 w2 w3 w4 w5 w6 w7 w8 w9 w10 w11 w12 w13 w14 w15 w16 w17 w18 w19 w20 w21) 523 g = sgM_keep σ w0 g w2 w3 w4 w5 w6 w7 w8 w9 w10 w11 w12 w13 w14 w15 w16 w17 w18 w19 w20 w21 := (cm_zI_aL _ _ _ _ _).trans (congrArg (fun z => aL z 628 w21) ((cm_zI_aL _ _ _ _ _).trans (congrArg (fun z => aL z 627 w20) ((cm_zI_aL _ _ _ _ _).trans (congrArg (fun z => aL z 626 w19) ((cm_zI_aI _ _ _ _ _).trans (congrArg (fun z => aI z 640 w18) ((cm_zI_aI _ _ _ _ _).trans (congrArg (fun z => aI z 632 w17) ((cm_zI_aI _ _ _ _ _).trans (congrArg (fun z => aI z 625 w16) ((cm_zI_aI _ _ _ _ _).trans (congrArg (fun z => aI z 624 w15) ((cm_zI_aI _ _ _ _ _).trans (congrArg (fun z => aI z 621 w14) ((cm_zI_aI _ _ _ _ _).trans (congrArg (fun z => aI z 620 w13) ((cm_zI_aI _ _ _ _ _).trans (congrArg (fun z => aI z 618 w12) ((cm_zI_aI _ _ _ _ _).trans (congrArg (fun z => aI z 617 w11) ((cm_zI_aI _ _ _ _ _).trans (congrArg (fun z => aI z 616 w10) ((cm_zI_aI _ _ _ _ _).trans (congrArg (fun z => aI z 615 w9) ((cm_zI_aI _ _ _ _ _).trans (congrArg (fun z => aI z 614 w8) ((cm_zI_aI _ _ _ _ _).trans (congrArg (fun z => aI z 613 w7) ((cm_zI_aI _ _ _ _ _).trans (congrArg (fun z => aI z 612 w6) ((cm_zI_aI _ _ _ _ _).trans (congrArg (fun z => aI z 611 w5) ((zI_comm _ (by decide) _ _).trans (congrArg (fun z => zI z 554 w4) ((zI_comm _ (by decide) _ _).trans (congrArg (fun z => zI z 543 w3) ((zI_comm _ (by decide) _ _).trans (congrArg (fun z => zI z 541 w2) (zI_zI _ 523 _ _))))))))))))))))))))))))))))))))))))))))
theorem sgM_keep_zI541 {σ : Sto} {w0 : Int32} {w1 : Int32} {w2 : Int32} {w3 : Int32} {w4 : Int32} {w5 : Nat → Int32} {w6 : Nat → Int32} {w7 : Nat → Int32} {w8 : Nat → Int32} {w9 : Nat → Int32} {w10 : Nat → Int32} {w11 : Nat → Int32} {w12 : Nat → Int32} {w13 : Nat → Int32} {w14 : Nat → Int32} {w15 : Nat → Int32} {w16 : Nat → Int32} {w17 : Nat → Int32} {w18 : Nat → Int32} {w19 : Nat → Int64} {w20 : Nat → Int64} {w21 : Nat → Int64} {g : Int32} : zI (sgM_keep σ w0 w1 w2 w3 w4 w5 w6 w7 w8 w9 w10 w11 w12 w13 w14 w15 w16 w17 w18 w19 w20 w21) 541 g = sgM_keep σ w0 w1 g w3 w4 w5 w6 w7 w8 w9 w10 w11 w12 w13 w14 w15 w16 w17 w18 w19 w20 w21 := (cm_zI_aL _ _ _ _ _).trans (congrArg (fun z => aL z 628 w21) ((cm_zI_aL _ _ _ _ _).trans (congrArg (fun z => aL z 627 w20) ((cm_zI_aL _ _ _ _ _).trans (congrArg (fun z => aL z 626 w19) ((cm_zI_aI _ _ _ _ _).trans (congrArg (fun z => aI z 640 w18) ((cm_zI_aI _ _ _ _ _).trans (congrArg (fun z => aI z 632 w17) ((cm_zI_aI _ _ _ _ _).trans (congrArg (fun z => aI z 625 w16) ((cm_zI_aI _ _ _ _ _).trans (congrArg (fun z => aI z 624 w15) ((cm_zI_aI _ _ _ _ _).trans (congrArg (fun z => aI z 621 w14) ((cm_zI_aI _ _ _ _ _).trans (congrArg (fun z => aI z 620 w13) ((cm_zI_aI _ _ _ _ _).trans (congrArg (fun z => aI z 618 w12) ((cm_zI_aI _ _ _ _ _).trans (congrArg (fun z => aI z 617 w11) ((cm_zI_aI _ _ _ _ _).trans (congrArg (fun z => aI z 616 w10) ((cm_zI_aI _ _ _ _ _).trans (congrArg (fun z => aI z 615 w9) ((cm_zI_aI _ _ _ _ _).trans (congrArg (fun z => aI z 614 w8) ((cm_zI_aI _ _ _ _ _).trans (congrArg (fun z => aI z 613 w7) ((cm_zI_aI _ _ _ _ _).trans (congrArg (fun z => aI z 612 w6) ((cm_zI_aI _ _ _ _ _).trans (congrArg (fun z => aI z 611 w5) ((zI_comm _ (by decide) _ _).trans (congrArg (fun z => zI z 554 w4) ((zI_comm _ (by decide) _ _).trans (congrArg (fun z => zI z 543 w3) (zI_zI _ 541 _ _))))))))))))))))))))))))))))))))))))))
theorem sgM_keep_zI543 {σ : Sto} {w0 : Int32} {w1 : Int32} {w2 : Int32} {w3 : Int32} {w4 : Int32} {w5 : Nat → Int32} {w6 : Nat → Int32} {w7 : Nat → Int32} {w8 : Nat → Int32} {w9 : Nat → Int32} {w10 : Nat → Int32} {w11 : Nat → Int32} {w12 : Nat → Int32} {w13 : Nat → Int32} {w14 : Nat → Int32} {w15 : Nat → Int32} {w16 : Nat → Int32} {w17 : Nat → Int32} {w18 : Nat → Int32} {w19 : Nat → Int64} {w20 : Nat → Int64} {w21 : Nat → Int64} {g : Int32} : zI (sgM_keep σ w0 w1 w2 w3 w4 w5 w6 w7 w8 w9 w10 w11 w12 w13 w14 w15 w16 w17 w18 w19 w20 w21) 543 g = sgM_keep σ w0 w1 w2 g w4 w5 w6 w7 w8 w9 w10 w11 w12 w13 w14 w15 w16 w17 w18 w19 w20 w21 := (cm_zI_aL _ _ _ _ _).trans (congrArg (fun z => aL z 628 w21) ((cm_zI_aL _ _ _ _ _).trans (congrArg (fun z => aL z 627 w20) ((cm_zI_aL _ _ _ _ _).trans (congrArg (fun z => aL z 626 w19) ((cm_zI_aI _ _ _ _ _).trans (congrArg (fun z => aI z 640 w18) ((cm_zI_aI _ _ _ _ _).trans (congrArg (fun z => aI z 632 w17) ((cm_zI_aI _ _ _ _ _).trans (congrArg (fun z => aI z 625 w16) ((cm_zI_aI _ _ _ _ _).trans (congrArg (fun z => aI z 624 w15) ((cm_zI_aI _ _ _ _ _).trans (congrArg (fun z => aI z 621 w14) ((cm_zI_aI _ _ _ _ _).trans (congrArg (fun z => aI z 620 w13) ((cm_zI_aI _ _ _ _ _).trans (congrArg (fun z => aI z 618 w12) ((cm_zI_aI _ _ _ _ _).trans (congrArg (fun z => aI z 617 w11) ((cm_zI_aI _ _ _ _ _).trans (congrArg (fun z => aI z 616 w10) ((cm_zI_aI _ _ _ _ _).trans (congrArg (fun z => aI z 615 w9) ((cm_zI_aI _ _ _ _ _).trans (congrArg (fun z => aI z 614 w8) ((cm_zI_aI _ _ _ _ _).trans (congrArg (fun z => aI z 613 w7) ((cm_zI_aI _ _ _ _ _).trans (congrArg (fun z => aI z 612 w6) ((cm_zI_aI _ _ _ _ _).trans (congrArg (fun z => aI z 611 w5) ((zI_comm _ (by decide) _ _).trans (congrArg (fun z => zI z 554 w4) (zI_zI _ 543 _ _))))))))))))))))))))))))))))))))))))
theorem sgM_keep_zI554 {σ : Sto} {w0 : Int32} {w1 : Int32} {w2 : Int32} {w3 : Int32} {w4 : Int32} {w5 : Nat → Int32} {w6 : Nat → Int32} {w7 : Nat → Int32} {w8 : Nat → Int32} {w9 : Nat → Int32} {w10 : Nat → Int32} {w11 : Nat → Int32} {w12 : Nat → Int32} {w13 : Nat → Int32} {w14 : Nat → Int32} {w15 : Nat → Int32} {w16 : Nat → Int32} {w17 : Nat → Int32} {w18 : Nat → Int32} {w19 : Nat → Int64} {w20 : Nat → Int64} {w21 : Nat → Int64} {g : Int32} : zI (sgM_keep σ w0 w1 w2 w3 w4 w5 w6 w7 w8 w9 w10 w11 w12 w13 w14 w15 w16 w17 w18 w19 w20 w21) 554 g = sgM_keep σ w0 w1 w2 w3 g w5 w6 w7 w8 w9 w10 w11 w12 w13 w14 w15 w16 w17 w18 w19 w20 w21 := (cm_zI_aL _ _ _ _ _).trans (congrArg (fun z => aL z 628 w21) ((cm_zI_aL _ _ _ _ _).trans (congrArg (fun z => aL z 627 w20) ((cm_zI_aL _ _ _ _ _).trans (congrArg (fun z => aL z 626 w19) ((cm_zI_aI _ _ _ _ _).trans (congrArg (fun z => aI z 640 w18) ((cm_zI_aI _ _ _ _ _).trans (congrArg (fun z => aI z 632 w17) ((cm_zI_aI _ _ _ _ _).trans (congrArg (fun z => aI z 625 w16) ((cm_zI_aI _ _ _ _ _).trans (congrArg (fun z => aI z 624 w15) ((cm_zI_aI _ _ _ _ _).trans (congrArg (fun z => aI z 621 w14) ((cm_zI_aI _ _ _ _ _).trans (congrArg (fun z => aI z 620 w13) ((cm_zI_aI _ _ _ _ _).trans (congrArg (fun z => aI z 618 w12) ((cm_zI_aI _ _ _ _ _).trans (congrArg (fun z => aI z 617 w11) ((cm_zI_aI _ _ _ _ _).trans (congrArg (fun z => aI z 616 w10) ((cm_zI_aI _ _ _ _ _).trans (congrArg (fun z => aI z 615 w9) ((cm_zI_aI _ _ _ _ _).trans (congrArg (fun z => aI z 614 w8) ((cm_zI_aI _ _ _ _ _).trans (congrArg (fun z => aI z 613 w7) ((cm_zI_aI _ _ _ _ _).trans (congrArg (fun z => aI z 612 w6) ((cm_zI_aI _ _ _ _ _).trans (congrArg (fun z => aI z 611 w5) (zI_zI _ 554 _ _))))))))))))))))))))))))))))))))))
theorem sgM_keep_aI611 {σ : Sto} {w0 : Int32} {w1 : Int32} {w2 : Int32} {w3 : Int32} {w4 : Int32} {w5 : Nat → Int32} {w6 : Nat → Int32} {w7 : Nat → Int32} {w8 : Nat → Int32} {w9 : Nat → Int32} {w10 : Nat → Int32} {w11 : Nat → Int32} {w12 : Nat → Int32} {w13 : Nat → Int32} {w14 : Nat → Int32} {w15 : Nat → Int32} {w16 : Nat → Int32} {w17 : Nat → Int32} {w18 : Nat → Int32} {w19 : Nat → Int64} {w20 : Nat → Int64} {w21 : Nat → Int64} {g : Nat → Int32} : aI (sgM_keep σ w0 w1 w2 w3 w4 w5 w6 w7 w8 w9 w10 w11 w12 w13 w14 w15 w16 w17 w18 w19 w20 w21) 611 g = sgM_keep σ w0 w1 w2 w3 w4 g w6 w7 w8 w9 w10 w11 w12 w13 w14 w15 w16 w17 w18 w19 w20 w21 := (cm_aI_aL _ _ _ _ _).trans (congrArg (fun z => aL z 628 w21) ((cm_aI_aL _ _ _ _ _).trans (congrArg (fun z => aL z 627 w20) ((cm_aI_aL _ _ _ _ _).trans (congrArg (fun z => aL z 626 w19) ((aI_comm _ (by decide) _ _).trans (congrArg (fun z => aI z 640 w18) ((aI_comm _ (by decide) _ _).trans (congrArg (fun z => aI z 632 w17) ((aI_comm _ (by decide) _ _).trans (congrArg (fun z => aI z 625 w16) ((aI_comm _ (by decide) _ _).trans (congrArg (fun z => aI z 624 w15) ((aI_comm _ (by decide) _ _).trans (congrArg (fun z => aI z 621 w14) ((aI_comm _ (by decide) _ _).trans (congrArg (fun z => aI z 620 w13) ((aI_comm _ (by decide) _ _).trans (congrArg (fun z => aI z 618 w12) ((aI_comm _ (by decide) _ _).trans (congrArg (fun z => aI z 617 w11) ((aI_comm _ (by decide) _ _).trans (congrArg (fun z => aI z 616 w10) ((aI_comm _ (by decide) _ _).trans (congrArg (fun z => aI z 615 w9) ((aI_comm _ (by decide) _ _).trans (congrArg (fun z => aI z 614 w8) ((aI_comm _ (by decide) _ _).trans (congrArg (fun z => aI z 613 w7) ((aI_comm _ (by decide) _ _).trans (congrArg (fun z => aI z 612 w6) (aI_aI _ 611 _ _))))))))))))))))))))))))))))))))
theorem sgM_keep_aI612 {σ : Sto} {w0 : Int32} {w1 : Int32} {w2 : Int32} {w3 : Int32} {w4 : Int32} {w5 : Nat → Int32} {w6 : Nat → Int32} {w7 : Nat → Int32} {w8 : Nat → Int32} {w9 : Nat → Int32} {w10 : Nat → Int32} {w11 : Nat → Int32} {w12 : Nat → Int32} {w13 : Nat → Int32} {w14 : Nat → Int32} {w15 : Nat → Int32} {w16 : Nat → Int32} {w17 : Nat → Int32} {w18 : Nat → Int32} {w19 : Nat → Int64} {w20 : Nat → Int64} {w21 : Nat → Int64} {g : Nat → Int32} : aI (sgM_keep σ w0 w1 w2 w3 w4 w5 w6 w7 w8 w9 w10 w11 w12 w13 w14 w15 w16 w17 w18 w19 w20 w21) 612 g = sgM_keep σ w0 w1 w2 w3 w4 w5 g w7 w8 w9 w10 w11 w12 w13 w14 w15 w16 w17 w18 w19 w20 w21 := (cm_aI_aL _ _ _ _ _).trans (congrArg (fun z => aL z 628 w21) ((cm_aI_aL _ _ _ _ _).trans (congrArg (fun z => aL z 627 w20) ((cm_aI_aL _ _ _ _ _).trans (congrArg (fun z => aL z 626 w19) ((aI_comm _ (by decide) _ _).trans (congrArg (fun z => aI z 640 w18) ((aI_comm _ (by decide) _ _).trans (congrArg (fun z => aI z 632 w17) ((aI_comm _ (by decide) _ _).trans (congrArg (fun z => aI z 625 w16) ((aI_comm _ (by decide) _ _).trans (congrArg (fun z => aI z 624 w15) ((aI_comm _ (by decide) _ _).trans (congrArg (fun z => aI z 621 w14) ((aI_comm _ (by decide) _ _).trans (congrArg (fun z => aI z 620 w13) ((aI_comm _ (by decide) _ _).trans (congrArg (fun z => aI z 618 w12) ((aI_comm _ (by decide) _ _).trans (congrArg (fun z => aI z 617 w11) ((aI_comm _ (by decide) _ _).trans (congrArg (fun z => aI z 616 w10) ((aI_comm _ (by decide) _ _).trans (congrArg (fun z => aI z 615 w9) ((aI_comm _ (by decide) _ _).trans (congrArg (fun z => aI z 614 w8) ((aI_comm _ (by decide) _ _).trans (congrArg (fun z => aI z 613 w7) (aI_aI _ 612 _ _))))))))))))))))))))))))))))))
theorem sgM_keep_aI613 {σ : Sto} {w0 : Int32} {w1 : Int32} {w2 : Int32} {w3 : Int32} {w4 : Int32} {w5 : Nat → Int32} {w6 : Nat → Int32} {w7 : Nat → Int32} {w8 : Nat → Int32} {w9 : Nat → Int32} {w10 : Nat → Int32} {w11 : Nat → Int32} {w12 : Nat → Int32} {w13 : Nat → Int32} {w14 : Nat → Int32} {w15 : Nat → Int32} {w16 : Nat → Int32} {w17 : Nat → Int32} {w18 : Nat → Int32} {w19 : Nat → Int64} {w20 : Nat → Int64} {w21 : Nat → Int64} {g : Nat → Int32} : aI (sgM_keep σ w0 w1 w2 w3 w4 w5 w6 w7 w8 w9 w10 w11 w12 w13 w14 w15 w16 w17 w18 w19 w20 w21) 613 g = sgM_keep σ w0 w1 w2 w3 w4 w5 w6 g w8 w9 w10 w11 w12 w13 w14 w15 w16 w17 w18 w19 w20 w21 := (cm_aI_aL _ _ _ _ _).trans (congrArg (fun z => aL z 628 w21) ((cm_aI_aL _ _ _ _ _).trans (congrArg (fun z => aL z 627 w20) ((cm_aI_aL _ _ _ _ _).trans (congrArg (fun z => aL z 626 w19) ((aI_comm _ (by decide) _ _).trans (congrArg (fun z => aI z 640 w18) ((aI_comm _ (by decide) _ _).trans (congrArg (fun z => aI z 632 w17) ((aI_comm _ (by decide) _ _).trans (congrArg (fun z => aI z 625 w16) ((aI_comm _ (by decide) _ _).trans (congrArg (fun z => aI z 624 w15) ((aI_comm _ (by decide) _ _).trans (congrArg (fun z => aI z 621 w14) ((aI_comm _ (by decide) _ _).trans (congrArg (fun z => aI z 620 w13) ((aI_comm _ (by decide) _ _).trans (congrArg (fun z => aI z 618 w12) ((aI_comm _ (by decide) _ _).trans (congrArg (fun z => aI z 617 w11) ((aI_comm _ (by decide) _ _).trans (congrArg (fun z => aI z 616 w10) ((aI_comm _ (by decide) _ _).trans (congrArg (fun z => aI z 615 w9) ((aI_comm _ (by decide) _ _).trans (congrArg (fun z => aI z 614 w8) (aI_aI _ 613 _ _))))))))))))))))))))))))))))
theorem sgM_keep_aI614 {σ : Sto} {w0 : Int32} {w1 : Int32} {w2 : Int32} {w3 : Int32} {w4 : Int32} {w5 : Nat → Int32} {w6 : Nat → Int32} {w7 : Nat → Int32} {w8 : Nat → Int32} {w9 : Nat → Int32} {w10 : Nat → Int32} {w11 : Nat → Int32} {w12 : Nat → Int32} {w13 : Nat → Int32} {w14 : Nat → Int32} {w15 : Nat → Int32} {w16 : Nat → Int32} {w17 : Nat → Int32} {w18 : Nat → Int32} {w19 : Nat → Int64} {w20 : Nat → Int64} {w21 : Nat → Int64} {g : Nat → Int32} : aI (sgM_keep σ w0 w1 w2 w3 w4 w5 w6 w7 w8 w9 w10 w11 w12 w13 w14 w15 w16 w17 w18 w19 w20 w21) 614 g = sgM_keep σ w0 w1 w2 w3 w4 w5 w6 w7 g w9 w10 w11 w12 w13 w14 w15 w16 w17 w18 w19 w20 w21 := (cm_aI_aL _ _ _ _ _).trans (congrArg (fun z => aL z 628 w21) ((cm_aI_aL _ _ _ _ _).trans (congrArg (fun z => aL z 627 w20) ((cm_aI_aL _ _ _ _ _).trans (congrArg (fun z => aL z 626 w19) ((aI_comm _ (by decide) _ _).trans (congrArg (fun z => aI z 640 w18) ((aI_comm _ (by decide) _ _).trans (congrArg (fun z => aI z 632 w17) ((aI_comm _ (by decide) _ _).trans (congrArg (fun z => aI z 625 w16) ((aI_comm _ (by decide) _ _).trans (congrArg (fun z => aI z 624 w15) ((aI_comm _ (by decide) _ _).trans (congrArg (fun z => aI z 621 w14) ((aI_comm _ (by decide) _ _).trans (congrArg (fun z => aI z 620 w13) ((aI_comm _ (by decide) _ _).trans (congrArg (fun z => aI z 618 w12) ((aI_comm _ (by decide) _ _).trans (congrArg (fun z => aI z 617 w11) ((aI_comm _ (by decide) _ _).trans (congrArg (fun z => aI z 616 w10) ((aI_comm _ (by decide) _ _).trans (congrArg (fun z => aI z 615 w9) (aI_aI _ 614 _ _))))))))))))))))))))))))))
theorem sgM_keep_aI615 {σ : Sto} {w0 : Int32} {w1 : Int32} {w2 : Int32} {w3 : Int32} {w4 : Int32} {w5 : Nat → Int32} {w6 : Nat → Int32} {w7 : Nat → Int32} {w8 : Nat → Int32} {w9 : Nat → Int32} {w10 : Nat → Int32} {w11 : Nat → Int32} {w12 : Nat → Int32} {w13 : Nat → Int32} {w14 : Nat → Int32} {w15 : Nat → Int32} {w16 : Nat → Int32} {w17 : Nat → Int32} {w18 : Nat → Int32} {w19 : Nat → Int64} {w20 : Nat → Int64} {w21 : Nat → Int64} {g : Nat → Int32} : aI (sgM_keep σ w0 w1 w2 w3 w4 w5 w6 w7 w8 w9 w10 w11 w12 w13 w14 w15 w16 w17 w18 w19 w20 w21) 615 g = sgM_keep σ w0 w1 w2 w3 w4 w5 w6 w7 w8 g w10 w11 w12 w13 w14 w15 w16 w17 w18 w19 w20 w21 := (cm_aI_aL _ _ _ _ _).trans (congrArg (fun z => aL z 628 w21) ((cm_aI_aL _ _ _ _ _).trans (congrArg (fun z => aL z 627 w20) ((cm_aI_aL _ _ _ _ _).trans (congrArg (fun z => aL z 626 w19) ((aI_comm _ (by decide) _ _).trans (congrArg (fun z => aI z 640 w18) ((aI_comm _ (by decide) _ _).trans (congrArg (fun z => aI z 632 w17) ((aI_comm _ (by decide) _ _).trans (congrArg (fun z => aI z 625 w16) ((aI_comm _ (by decide) _ _).trans (congrArg (fun z => aI z 624 w15) ((aI_comm _ (by decide) _ _).trans (congrArg (fun z => aI z 621 w14) ((aI_comm _ (by decide) _ _).trans (congrArg (fun z => aI z 620 w13) ((aI_comm _ (by decide) _ _).trans (congrArg (fun z => aI z 618 w12) ((aI_comm _ (by decide) _ _).trans (congrArg (fun z => aI z 617 w11) ((aI_comm _ (by decide) _ _).trans (congrArg (fun z => aI z 616 w10) (aI_aI _ 615 _ _))))))))))))))))))))))))
theorem sgM_keep_aI616 {σ : Sto} {w0 : Int32} {w1 : Int32} {w2 : Int32} {w3 : Int32} {w4 : Int32} {w5 : Nat → Int32} {w6 : Nat → Int32} {w7 : Nat → Int32} {w8 : Nat → Int32} {w9 : Nat → Int32} {w10 : Nat → Int32} {w11 : Nat → Int32} {w12 : Nat → Int32} {w13 : Nat → Int32} {w14 : Nat → Int32} {w15 : Nat → Int32} {w16 : Nat → Int32} {w17 : Nat → Int32} {w18 : Nat → Int32} {w19 : Nat → Int64} {w20 : Nat → Int64} {w21 : Nat → Int64} {g : Nat → Int32} : aI (sgM_keep σ w0 w1 w2 w3 w4 w5 w6 w7 w8 w9 w10 w11 w12 w13 w14 w15 w16 w17 w18 w19 w20 w21) 616 g = sgM_keep σ w0 w1 w2 w3 w4 w5 w6 w7 w8 w9 g w11 w12 w13 w14 w15 w16 w17 w18 w19 w20 w21 := (cm_aI_aL _ _ _ _ _).trans (congrArg (fun z => aL z 628 w21) ((cm_aI_aL _ _ _ _ _).trans (congrArg (fun z => aL z 627 w20) ((cm_aI_aL _ _ _ _ _).trans (congrArg (fun z => aL z 626 w19) ((aI_comm _ (by decide) _ _).trans (congrArg (fun z => aI z 640 w18) ((aI_comm _ (by decide) _ _).trans (congrArg (fun z => aI z 632 w17) ((aI_comm _ (by decide) _ _).trans (congrArg (fun z => aI z 625 w16) ((aI_comm _ (by decide) _ _).trans (congrArg (fun z => aI z 624 w15) ((aI_comm _ (by decide) _ _).trans (congrArg (fun z => aI z 621 w14) ((aI_comm _ (by decide) _ _).trans (congrArg (fun z => aI z 620 w13) ((aI_comm _ (by decide) _ _).trans (congrArg (fun z => aI z 618 w12) ((aI_comm _ (by decide) _ _).trans (congrArg (fun z => aI z 617 w11) (aI_aI _ 616 _ _))))))))))))))))))))))
theorem sgM_keep_aI617 {σ : Sto} {w0 : Int32} {w1 : Int32} {w2 : Int32} {w3 : Int32} {w4 : Int32} {w5 : Nat → Int32} {w6 : Nat → Int32} {w7 : Nat → Int32} {w8 : Nat → Int32} {w9 : Nat → Int32} {w10 : Nat → Int32} {w11 : Nat → Int32} {w12 : Nat → Int32} {w13 : Nat → Int32} {w14 : Nat → Int32} {w15 : Nat → Int32} {w16 : Nat → Int32} {w17 : Nat → Int32} {w18 : Nat → Int32} {w19 : Nat → Int64} {w20 : Nat → Int64} {w21 : Nat → Int64} {g : Nat → Int32} : aI (sgM_keep σ w0 w1 w2 w3 w4 w5 w6 w7 w8 w9 w10 w11 w12 w13 w14 w15 w16 w17 w18 w19 w20 w21) 617 g = sgM_keep σ w0 w1 w2 w3 w4 w5 w6 w7 w8 w9 w10 g w12 w13 w14 w15 w16 w17 w18 w19 w20 w21 := (cm_aI_aL _ _ _ _ _).trans (congrArg (fun z => aL z 628 w21) ((cm_aI_aL _ _ _ _ _).trans (congrArg (fun z => aL z 627 w20) ((cm_aI_aL _ _ _ _ _).trans (congrArg (fun z => aL z 626 w19) ((aI_comm _ (by decide) _ _).trans (congrArg (fun z => aI z 640 w18) ((aI_comm _ (by decide) _ _).trans (congrArg (fun z => aI z 632 w17) ((aI_comm _ (by decide) _ _).trans (congrArg (fun z => aI z 625 w16) ((aI_comm _ (by decide) _ _).trans (congrArg (fun z => aI z 624 w15) ((aI_comm _ (by decide) _ _).trans (congrArg (fun z => aI z 621 w14) ((aI_comm _ (by decide) _ _).trans (congrArg (fun z => aI z 620 w13) ((aI_comm _ (by decide) _ _).trans (congrArg (fun z => aI z 618 w12) (aI_aI _ 617 _ _))))))))))))))))))))
theorem sgM_keep_aI618 {σ : Sto} {w0 : Int32} {w1 : Int32} {w2 : Int32} {w3 : Int32} {w4 : Int32} {w5 : Nat → Int32} {w6 : Nat → Int32} {w7 : Nat → Int32} {w8 : Nat → Int32} {w9 : Nat → Int32} {w10 : Nat → Int32} {w11 : Nat → Int32} {w12 : Nat → Int32} {w13 : Nat → Int32} {w14 : Nat → Int32} {w15 : Nat → Int32} {w16 : Nat → Int32} {w17 : Nat → Int32} {w18 : Nat → Int32} {w19 : Nat → Int64} {w20 : Nat → Int64} {w21 : Nat → Int64} {g : Nat → Int32} : aI (sgM_keep σ w0 w1 w2 w3 w4 w5 w6 w7 w8 w9 w10 w11 w12 w13 w14 w15 w16 w17 w18 w19 w20 w21) 618 g = sgM_keep σ w0 w1 w2 w3 w4 w5 w6 w7 w8 w9 w10 w11 g w13 w14 w15 w16 w17 w18 w19 w20 w21 := (cm_aI_aL _ _ _ _ _).trans (congrArg (fun z => aL z 628 w21) ((cm_aI_aL _ _ _ _ _).trans (congrArg (fun z => aL z 627 w20) ((cm_aI_aL _ _ _ _ _).trans (congrArg (fun z => aL z 626 w19) ((aI_comm _ (by decide) _ _).trans (congrArg (fun z => aI z 640 w18) ((aI_comm _ (by decide) _ _).trans (congrArg (fun z => aI z 632 w17) ((aI_comm _ (by decide) _ _).trans (congrArg (fun z => aI z 625 w16) ((aI_comm _ (by decide) _ _).trans (congrArg (fun z => aI z 624 w15) ((aI_comm _ (by decide) _ _).trans (congrArg (fun z => aI z 621 w14) ((aI_comm _ (by decide) _ _).trans (congrArg (fun z => aI z 620 w13) (aI_aI _ 618 _ _))))))))))))))))))
theorem sgM_keep_aI620 {σ : Sto} {w0 : Int32} {w1 : Int32} {w2 : Int32} {w3 : Int32} {w4 : Int32} {w5 : Nat → Int32} {w6 : Nat → Int32} {w7 : Nat → Int32} {w8 : Nat → Int32} {w9 : Nat → Int32} {w10 : Nat → Int32} {w11 : Nat → Int32} {w12 : Nat → Int32} {w13 : Nat → Int32} {w14 : Nat → Int32} {w15 : Nat → Int32} {w16 : Nat → Int32} {w17 : Nat → Int32} {w18 : Nat → Int32} {w19 : Nat → Int64} {w20 : Nat → Int64} {w21 : Nat → Int64} {g : Nat → Int32} : aI (sgM_keep σ w0 w1 w2 w3 w4 w5 w6 w7 w8 w9 w10 w11 w12 w13 w14 w15 w16 w17 w18 w19 w20 w21) 620 g = sgM_keep σ w0 w1 w2 w3 w4 w5 w6 w7 w8 w9 w10 w11 w12 g w14 w15 w16 w17 w18 w19 w20 w21 := (cm_aI_aL _ _ _ _ _).trans (congrArg (fun z => aL z 628 w21) ((cm_aI_aL _ _ _ _ _).trans (congrArg (fun z => aL z 627 w20) ((cm_aI_aL _ _ _ _ _).trans (congrArg (fun z => aL z 626 w19) ((aI_comm _ (by decide) _ _).trans (congrArg (fun z => aI z 640 w18) ((aI_comm _ (by decide) _ _).trans (congrArg (fun z => aI z 632 w17) ((aI_comm _ (by decide) _ _).trans (congrArg (fun z => aI z 625 w16) ((aI_comm _ (by decide) _ _).trans (congrArg (fun z => aI z 624 w15) ((aI_comm _ (by decide) _ _).trans (congrArg (fun z => aI z 621 w14) (aI_aI _ 620 _ _))))))))))))))))
theorem sgM_keep_aI621 {σ : Sto} {w0 : Int32} {w1 : Int32} {w2 : Int32} {w3 : Int32} {w4 : Int32} {w5 : Nat → Int32} {w6 : Nat → Int32} {w7 : Nat → Int32} {w8 : Nat → Int32} {w9 : Nat → Int32} {w10 : Nat → Int32} {w11 : Nat → Int32} {w12 : Nat → Int32} {w13 : Nat → Int32} {w14 : Nat → Int32} {w15 : Nat → Int32} {w16 : Nat → Int32} {w17 : Nat → Int32} {w18 : Nat → Int32} {w19 : Nat → Int64} {w20 : Nat → Int64} {w21 : Nat → Int64} {g : Nat → Int32} : aI (sgM_keep σ w0 w1 w2 w3 w4 w5 w6 w7 w8 w9 w10 w11 w12 w13 w14 w15 w16 w17 w18 w19 w20 w21) 621 g = sgM_keep σ w0 w1 w2 w3 w4 w5 w6 w7 w8 w9 w10 w11 w12 w13 g w15 w16 w17 w18 w19 w20 w21 := (cm_aI_aL _ _ _ _ _).trans (congrArg (fun z => aL z 628 w21) ((cm_aI_aL _ _ _ _ _).trans (congrArg (fun z => aL z 627 w20) ((cm_aI_aL _ _ _ _ _).trans (congrArg (fun z => aL z 626 w19) ((aI_comm _ (by decide) _ _).trans (congrArg (fun z => aI z 640 w18) ((aI_comm _ (by decide) _ _).trans (congrArg (fun z => aI z 632 w17) ((aI_comm _ (by decide) _ _).trans (congrArg (fun z => aI z 625 w16) ((aI_comm _ (by decide) _ _).trans (congrArg (fun z => aI z 624 w15) (aI_aI _ 621 _ _))))))))))))))
theorem sgM_keep_aI624 {σ : Sto} {w0 : Int32} {w1 : Int32} {w2 : Int32} {w3 : Int32} {w4 : Int32} {w5 : Nat → Int32} {w6 : Nat → Int32} {w7 : Nat → Int32} {w8 : Nat → Int32} {w9 : Nat → Int32} {w10 : Nat → Int32} {w11 : Nat → Int32} {w12 : Nat → Int32} {w13 : Nat → Int32} {w14 : Nat → Int32} {w15 : Nat → Int32} {w16 : Nat → Int32} {w17 : Nat → Int32} {w18 : Nat → Int32} {w19 : Nat → Int64} {w20 : Nat → Int64} {w21 : Nat → Int64} {g : Nat → Int32} : aI (sgM_keep σ w0 w1 w2 w3 w4 w5 w6 w7 w8 w9 w10 w11 w12 w13 w14 w15 w16 w17 w18 w19 w20 w21) 624 g = sgM_keep σ w0 w1 w2 w3 w4 w5 w6 w7 w8 w9 w10 w11 w12 w13 w14 g w16 w17 w18 w19 w20 w21 := (cm_aI_aL _ _ _ _ _).trans (congrArg (fun z => aL z 628 w21) ((cm_aI_aL _ _ _ _ _).trans (congrArg (fun z => aL z 627 w20) ((cm_aI_aL _ _ _ _ _).trans (congrArg (fun z => aL z 626 w19) ((aI_comm _ (by decide) _ _).trans (congrArg (fun z => aI z 640 w18) ((aI_comm _ (by decide) _ _).trans (congrArg (fun z => aI z 632 w17) ((aI_comm _ (by decide) _ _).trans (congrArg (fun z => aI z 625 w16) (aI_aI _ 624 _ _))))))))))))
theorem sgM_keep_aI625 {σ : Sto} {w0 : Int32} {w1 : Int32} {w2 : Int32} {w3 : Int32} {w4 : Int32} {w5 : Nat → Int32} {w6 : Nat → Int32} {w7 : Nat → Int32} {w8 : Nat → Int32} {w9 : Nat → Int32} {w10 : Nat → Int32} {w11 : Nat → Int32} {w12 : Nat → Int32} {w13 : Nat → Int32} {w14 : Nat → Int32} {w15 : Nat → Int32} {w16 : Nat → Int32} {w17 : Nat → Int32} {w18 : Nat → Int32} {w19 : Nat → Int64} {w20 : Nat → Int64} {w21 : Nat → Int64} {g : Nat → Int32} : aI (sgM_keep σ w0 w1 w2 w3 w4 w5 w6 w7 w8 w9 w10 w11 w12 w13 w14 w15 w16 w17 w18 w19 w20 w21) 625 g = sgM_keep σ w0 w1 w2 w3 w4 w5 w6 w7 w8 w9 w10 w11 w12 w13 w14 w15 g w17 w18 w19 w20 w21 := (cm_aI_aL _ _ _ _ _).trans (congrArg (fun z => aL z 628 w21) ((cm_aI_aL _ _ _ _ _).trans (congrArg (fun z => aL z 627 w20) ((cm_aI_aL _ _ _ _ _).trans (congrArg (fun z => aL z 626 w19) ((aI_comm _ (by decide) _ _).trans (congrArg (fun z => aI z 640 w18) ((aI_comm _ (by decide) _ _).trans (congrArg (fun z => aI z 632 w17) (aI_aI _ 625 _ _))))))))))
theorem sgM_keep_aI632 {σ : Sto} {w0 : Int32} {w1 : Int32} {w2 : Int32} {w3 : Int32} {w4 : Int32} {w5 : Nat → Int32} {w6 : Nat → Int32} {w7 : Nat → Int32} {w8 : Nat → Int32} {w9 : Nat → Int32} {w10 : Nat → Int32} {w11 : Nat → Int32} {w12 : Nat → Int32} {w13 : Nat → Int32} {w14 : Nat → Int32} {w15 : Nat → Int32} {w16 : Nat → Int32} {w17 : Nat → Int32} {w18 : Nat → Int32} {w19 : Nat → Int64} {w20 : Nat → Int64} {w21 : Nat → Int64} {g : Nat → Int32} : aI (sgM_keep σ w0 w1 w2 w3 w4 w5 w6 w7 w8 w9 w10 w11 w12 w13 w14 w15 w16 w17 w18 w19 w20 w21) 632 g = sgM_keep σ w0 w1 w2 w3 w4 w5 w6 w7 w8 w9 w10 w11 w12 w13 w14 w15 w16 g w18 w19 w20 w21 := (cm_aI_aL _ _ _ _ _).trans (congrArg (fun z => aL z 628 w21) ((cm_aI_aL _ _ _ _ _).trans (congrArg (fun z => aL z 627 w20) ((cm_aI_aL _ _ _ _ _).trans (congrArg (fun z => aL z 626 w19) ((aI_comm _ (by decide) _ _).trans (congrArg (fun z => aI z 640 w18) (aI_aI _ 632 _ _))))))))
theorem sgM_keep_aI640 {σ : Sto} {w0 : Int32} {w1 : Int32} {w2 : Int32} {w3 : Int32} {w4 : Int32} {w5 : Nat → Int32} {w6 : Nat → Int32} {w7 : Nat → Int32} {w8 : Nat → Int32} {w9 : Nat → Int32} {w10 : Nat → Int32} {w11 : Nat → Int32} {w12 : Nat → Int32} {w13 : Nat → Int32} {w14 : Nat → Int32} {w15 : Nat → Int32} {w16 : Nat → Int32} {w17 : Nat → Int32} {w18 : Nat → Int32} {w19 : Nat → Int64} {w20 : Nat → Int64} {w21 : Nat → Int64} {g : Nat → Int32} : aI (sgM_keep σ w0 w1 w2 w3 w4 w5 w6 w7 w8 w9 w10 w11 w12 w13 w14 w15 w16 w17 w18 w19 w20 w21) 640 g = sgM_keep σ w0 w1 w2 w3 w4 w5 w6 w7 w8 w9 w10 w11 w12 w13 w14 w15 w16 w17 g w19 w20 w21 := (cm_aI_aL _ _ _ _ _).trans (congrArg (fun z => aL z 628 w21) ((cm_aI_aL _ _ _ _ _).trans (congrArg (fun z => aL z 627 w20) ((cm_aI_aL _ _ _ _ _).trans (congrArg (fun z => aL z 626 w19) (aI_aI _ 640 _ _))))))
theorem sgM_keep_aL626 {σ : Sto} {w0 : Int32} {w1 : Int32} {w2 : Int32} {w3 : Int32} {w4 : Int32} {w5 : Nat → Int32} {w6 : Nat → Int32} {w7 : Nat → Int32} {w8 : Nat → Int32} {w9 : Nat → Int32} {w10 : Nat → Int32} {w11 : Nat → Int32} {w12 : Nat → Int32} {w13 : Nat → Int32} {w14 : Nat → Int32} {w15 : Nat → Int32} {w16 : Nat → Int32} {w17 : Nat → Int32} {w18 : Nat → Int32} {w19 : Nat → Int64} {w20 : Nat → Int64} {w21 : Nat → Int64} {g : Nat → Int64} : aL (sgM_keep σ w0 w1 w2 w3 w4 w5 w6 w7 w8 w9 w10 w11 w12 w13 w14 w15 w16 w17 w18 w19 w20 w21) 626 g = sgM_keep σ w0 w1 w2 w3 w4 w5 w6 w7 w8 w9 w10 w11 w12 w13 w14 w15 w16 w17 w18 g w20 w21 := (aL_comm _ (by decide) _ _).trans (congrArg (fun z => aL z 628 w21) ((aL_comm _ (by decide) _ _).trans (congrArg (fun z => aL z 627 w20) (aL_aL _ 626 _ _))))
theorem sgM_keep_aL627 {σ : Sto} {w0 : Int32} {w1 : Int32} {w2 : Int32} {w3 : Int32} {w4 : Int32} {w5 : Nat → Int32} {w6 : Nat → Int32} {w7 : Nat → Int32} {w8 : Nat → Int32} {w9 : Nat → Int32} {w10 : Nat → Int32} {w11 : Nat → Int32} {w12 : Nat → Int32} {w13 : Nat → Int32} {w14 : Nat → Int32} {w15 : Nat → Int32} {w16 : Nat → Int32} {w17 : Nat → Int32} {w18 : Nat → Int32} {w19 : Nat → Int64} {w20 : Nat → Int64} {w21 : Nat → Int64} {g : Nat → Int64} : aL (sgM_keep σ w0 w1 w2 w3 w4 w5 w6 w7 w8 w9 w10 w11 w12 w13 w14 w15 w16 w17 w18 w19 w20 w21) 627 g = sgM_keep σ w0 w1 w2 w3 w4 w5 w6 w7 w8 w9 w10 w11 w12 w13 w14 w15 w16 w17 w18 w19 g w21 := (aL_comm _ (by decide) _ _).trans (congrArg (fun z => aL z 628 w21) (aL_aL _ 627 _ _))
theorem sgM_keep_aL628 {σ : Sto} {w0 : Int32} {w1 : Int32} {w2 : Int32} {w3 : Int32} {w4 : Int32} {w5 : Nat → Int32} {w6 : Nat → Int32} {w7 : Nat → Int32} {w8 : Nat → Int32} {w9 : Nat → Int32} {w10 : Nat → Int32} {w11 : Nat → Int32} {w12 : Nat → Int32} {w13 : Nat → Int32} {w14 : Nat → Int32} {w15 : Nat → Int32} {w16 : Nat → Int32} {w17 : Nat → Int32} {w18 : Nat → Int32} {w19 : Nat → Int64} {w20 : Nat → Int64} {w21 : Nat → Int64} {g : Nat → Int64} : aL (sgM_keep σ w0 w1 w2 w3 w4 w5 w6 w7 w8 w9 w10 w11 w12 w13 w14 w15 w16 w17 w18 w19 w20 w21) 628 g = sgM_keep σ w0 w1 w2 w3 w4 w5 w6 w7 w8 w9 w10 w11 w12 w13 w14 w15 w16 w17 w18 w19 w20 g := aL_aL _ 628 _ _
theorem sgM_keep_rzI522 {σ : Sto} {w0 : Int32} {w1 : Int32} {w2 : Int32} {w3 : Int32} {w4 : Int32} {w5 : Nat → Int32} {w6 : Nat → Int32} {w7 : Nat → Int32} {w8 : Nat → Int32} {w9 : Nat → Int32} {w10 : Nat → Int32} {w11 : Nat → Int32} {w12 : Nat → Int32} {w13 : Nat → Int32} {w14 : Nat → Int32} {w15 : Nat → Int32} {w16 : Nat → Int32} {w17 : Nat → Int32} {w18 : Nat → Int32} {w19 : Nat → Int64} {w20 : Nat → Int64} {w21 : Nat → Int64} : (sgM_keep σ w0 w1 w2 w3 w4 w5 w6 w7 w8 w9 w10 w11 w12 w13 w14 w15 w16 w17 w18 w19 w20 w21).1 522 = w0 := rfl
theorem sgM_keep_rzI523 {σ : Sto} {w0 : Int32} {w1 : Int32} {w2 : Int32} {w3 : Int32} {w4 : Int32} {w5 : Nat → Int32} {w6 : Nat → Int32} {w7 : Nat → Int32} {w8 : Nat → Int32} {w9 : Nat → Int32} {w10 : Nat → Int32} {w11 : Nat → Int32} {w12 : Nat → Int32} {w13 : Nat → Int32} {w14 : Nat → Int32} {w15 : Nat → Int32} {w16 : Nat → Int32} {w17 : Nat → Int32} {w18 : Nat → Int32} {w19 : Nat → Int64} {w20 : Nat → Int64} {w21 : Nat → Int64} : (sgM_keep σ w0 w1 w2 w3 w4 w5 w6 w7 w8 w9 w10 w11 w12 w13 w14 w15 w16 w17 w18 w19 w20 w21).1 523 = w1 := rfl
theorem sgM_keep_rzI541 {σ : Sto} {w0 : Int32} {w1 : Int32} {w2 : Int32} {w3 : Int32} {w4 : Int32} {w5 : Nat → Int32} {w6 : Nat → Int32} {w7 : Nat → Int32} {w8 : Nat → Int32} {w9 : Nat → Int32} {w10 : Nat → Int32} {w11 : Nat → Int32} {w12 : Nat → Int32} {w13 : Nat → Int32} {w14 : Nat → Int32} {w15 : Nat → Int32} {w16 : Nat → Int32} {w17 : Nat → Int32} {w18 : Nat → Int32} {w19 : Nat → Int64} {w20 : Nat → Int64} {w21 : Nat → Int64} : (sgM_keep σ w0 w1 w2 w3 w4 w5 w6 w7 w8 w9 w10 w11 w12 w13 w14 w15 w16 w17 w18 w19 w20 w21).1 541 = w2 := rfl
theorem sgM_keep_rzI543 {σ : Sto} {w0 : Int32} {w1 : Int32} {w2 : Int32} {w3 : Int32} {w4 : Int32} {w5 : Nat → Int32} {w6 : Nat → Int32} {w7 : Nat → Int32} {w8 : Nat → Int32} {w9 : Nat → Int32} {w10 : Nat → Int32} {w11 : Nat → Int32} {w12 : Nat → Int32} {w13 : Nat → Int32} {w14 : Nat → Int32} {w15 : Nat → Int32} {w16 : Nat → Int32} {w17 : Nat → Int32} {w18 : Nat → Int32} {w19 : Nat → Int64} {w20 : Nat → Int64} {w21 : Nat → Int64} : (sgM_keep σ w0 w1 w2 w3 w4 w5 w6 w7 w8 w9 w10 w11 w12 w13 w14 w15 w16 w17 w18 w19 w20 w21).1 543 = w3 := rfl
theorem sgM_keep_rzI554 {σ : Sto} {w0 : Int32} {w1 : Int32} {w2 : Int32} {w3 : Int32} {w4 : Int32} {w5 : Nat → Int32} {w6 : Nat → Int32} {w7 : Nat → Int32} {w8 : Nat → Int32} {w9 : Nat → Int32} {w10 : Nat → Int32} {w11 : Nat → Int32} {w12 : Nat → Int32} {w13 : Nat → Int32} {w14 : Nat → Int32} {w15 : Nat → Int32} {w16 : Nat → Int32} {w17 : Nat → Int32} {w18 : Nat → Int32} {w19 : Nat → Int64} {w20 : Nat → Int64} {w21 : Nat → Int64} : (sgM_keep σ w0 w1 w2 w3 w4 w5 w6 w7 w8 w9 w10 w11 w12 w13 w14 w15 w16 w17 w18 w19 w20 w21).1 554 = w4 := rfl
theorem sgM_keep_raI611 {σ : Sto} {w0 : Int32} {w1 : Int32} {w2 : Int32} {w3 : Int32} {w4 : Int32} {w5 : Nat → Int32} {w6 : Nat → Int32} {w7 : Nat → Int32} {w8 : Nat → Int32} {w9 : Nat → Int32} {w10 : Nat → Int32} {w11 : Nat → Int32} {w12 : Nat → Int32} {w13 : Nat → Int32} {w14 : Nat → Int32} {w15 : Nat → Int32} {w16 : Nat → Int32} {w17 : Nat → Int32} {w18 : Nat → Int32} {w19 : Nat → Int64} {w20 : Nat → Int64} {w21 : Nat → Int64} : (sgM_keep σ w0 w1 w2 w3 w4 w5 w6 w7 w8 w9 w10 w11 w12 w13 w14 w15 w16 w17 w18 w19 w20 w21).2.2.1 611 = w5 := rfl
theorem sgM_keep_raI612 {σ : Sto} {w0 : Int32} {w1 : Int32} {w2 : Int32} {w3 : Int32} {w4 : Int32} {w5 : Nat → Int32} {w6 : Nat → Int32} {w7 : Nat → Int32} {w8 : Nat → Int32} {w9 : Nat → Int32} {w10 : Nat → Int32} {w11 : Nat → Int32} {w12 : Nat → Int32} {w13 : Nat → Int32} {w14 : Nat → Int32} {w15 : Nat → Int32} {w16 : Nat → Int32} {w17 : Nat → Int32} {w18 : Nat → Int32} {w19 : Nat → Int64} {w20 : Nat → Int64} {w21 : Nat → Int64} : (sgM_keep σ w0 w1 w2 w3 w4 w5 w6 w7 w8 w9 w10 w11 w12 w13 w14 w15 w16 w17 w18 w19 w20 w21).2.2.1 612 = w6 := rfl
theorem sgM_keep_raI613 {σ : Sto} {w0 : Int32} {w1 : Int32} {w2 : Int32} {w3 : Int32} {w4 : Int32} {w5 : Nat → Int32} {w6 : Nat → Int32} {w7 : Nat → Int32} {w8 : Nat → Int32} {w9 : Nat → Int32} {w10 : Nat → Int32} {w11 : Nat → Int32} {w12 : Nat → Int32} {w13 : Nat → Int32} {w14 : Nat → Int32} {w15 : Nat → Int32} {w16 : Nat → Int32} {w17 : Nat → Int32} {w18 : Nat → Int32} {w19 : Nat → Int64} {w20 : Nat → Int64} {w21 : Nat → Int64} : (sgM_keep σ w0 w1 w2 w3 w4 w5 w6 w7 w8 w9 w10 w11 w12 w13 w14 w15 w16 w17 w18 w19 w20 w21).2.2.1 613 = w7 := rfl
theorem sgM_keep_raI614 {σ : Sto} {w0 : Int32} {w1 : Int32} {w2 : Int32} {w3 : Int32} {w4 : Int32} {w5 : Nat → Int32} {w6 : Nat → Int32} {w7 : Nat → Int32} {w8 : Nat → Int32} {w9 : Nat → Int32} {w10 : Nat → Int32} {w11 : Nat → Int32} {w12 : Nat → Int32} {w13 : Nat → Int32} {w14 : Nat → Int32} {w15 : Nat → Int32} {w16 : Nat → Int32} {w17 : Nat → Int32} {w18 : Nat → Int32} {w19 : Nat → Int64} {w20 : Nat → Int64} {w21 : Nat → Int64} : (sgM_keep σ w0 w1 w2 w3 w4 w5 w6 w7 w8 w9 w10 w11 w12 w13 w14 w15 w16 w17 w18 w19 w20 w21).2.2.1 614 = w8 := rfl
theorem sgM_keep_raI615 {σ : Sto} {w0 : Int32} {w1 : Int32} {w2 : Int32} {w3 : Int32} {w4 : Int32} {w5 : Nat → Int32} {w6 : Nat → Int32} {w7 : Nat → Int32} {w8 : Nat → Int32} {w9 : Nat → Int32} {w10 : Nat → Int32} {w11 : Nat → Int32} {w12 : Nat → Int32} {w13 : Nat → Int32} {w14 : Nat → Int32} {w15 : Nat → Int32} {w16 : Nat → Int32} {w17 : Nat → Int32} {w18 : Nat → Int32} {w19 : Nat → Int64} {w20 : Nat → Int64} {w21 : Nat → Int64} : (sgM_keep σ w0 w1 w2 w3 w4 w5 w6 w7 w8 w9 w10 w11 w12 w13 w14 w15 w16 w17 w18 w19 w20 w21).2.2.1 615 = w9 := rfl
theorem sgM_keep_raI616 {σ : Sto} {w0 : Int32} {w1 : Int32} {w2 : Int32} {w3 : Int32} {w4 : Int32} {w5 : Nat → Int32} {w6 : Nat → Int32} {w7 : Nat → Int32} {w8 : Nat → Int32} {w9 : Nat → Int32} {w10 : Nat → Int32} {w11 : Nat → Int32} {w12 : Nat → Int32} {w13 : Nat → Int32} {w14 : Nat → Int32} {w15 : Nat → Int32} {w16 : Nat → Int32} {w17 : Nat → Int32} {w18 : Nat → Int32} {w19 : Nat → Int64} {w20 : Nat → Int64} {w21 : Nat → Int64} : (sgM_keep σ w0 w1 w2 w3 w4 w5 w6 w7 w8 w9 w10 w11 w12 w13 w14 w15 w16 w17 w18 w19 w20 w21).2.2.1 616 = w10 := rfl
theorem sgM_keep_raI617 {σ : Sto} {w0 : Int32} {w1 : Int32} {w2 : Int32} {w3 : Int32} {w4 : Int32} {w5 : Nat → Int32} {w6 : Nat → Int32} {w7 : Nat → Int32} {w8 : Nat → Int32} {w9 : Nat → Int32} {w10 : Nat → Int32} {w11 : Nat → Int32} {w12 : Nat → Int32} {w13 : Nat → Int32} {w14 : Nat → Int32} {w15 : Nat → Int32} {w16 : Nat → Int32} {w17 : Nat → Int32} {w18 : Nat → Int32} {w19 : Nat → Int64} {w20 : Nat → Int64} {w21 : Nat → Int64} : (sgM_keep σ w0 w1 w2 w3 w4 w5 w6 w7 w8 w9 w10 w11 w12 w13 w14 w15 w16 w17 w18 w19 w20 w21).2.2.1 617 = w11 := rfl
theorem sgM_keep_raI618 {σ : Sto} {w0 : Int32} {w1 : Int32} {w2 : Int32} {w3 : Int32} {w4 : Int32} {w5 : Nat → Int32} {w6 : Nat → Int32} {w7 : Nat → Int32} {w8 : Nat → Int32} {w9 : Nat → Int32} {w10 : Nat → Int32} {w11 : Nat → Int32} {w12 : Nat → Int32} {w13 : Nat → Int32} {w14 : Nat → Int32} {w15 : Nat → Int32} {w16 : Nat → Int32} {w17 : Nat → Int32} {w18 : Nat → Int32} {w19 : Nat → Int64} {w20 : Nat → Int64} {w21 : Nat → Int64} : (sgM_keep σ w0 w1 w2 w3 w4 w5 w6 w7 w8 w9 w10 w11 w12 w13 w14 w15 w16 w17 w18 w19 w20 w21).2.2.1 618 = w12 := rfl
theorem sgM_keep_raI620 {σ : Sto} {w0 : Int32} {w1 : Int32} {w2 : Int32} {w3 : Int32} {w4 : Int32} {w5 : Nat → Int32} {w6 : Nat → Int32} {w7 : Nat → Int32} {w8 : Nat → Int32} {w9 : Nat → Int32} {w10 : Nat → Int32} {w11 : Nat → Int32} {w12 : Nat → Int32} {w13 : Nat → Int32} {w14 : Nat → Int32} {w15 : Nat → Int32} {w16 : Nat → Int32} {w17 : Nat → Int32} {w18 : Nat → Int32} {w19 : Nat → Int64} {w20 : Nat → Int64} {w21 : Nat → Int64} : (sgM_keep σ w0 w1 w2 w3 w4 w5 w6 w7 w8 w9 w10 w11 w12 w13 w14 w15 w16 w17 w18 w19 w20 w21).2.2.1 620 = w13 := rfl
theorem sgM_keep_raI621 {σ : Sto} {w0 : Int32} {w1 : Int32} {w2 : Int32} {w3 : Int32} {w4 : Int32} {w5 : Nat → Int32} {w6 : Nat → Int32} {w7 : Nat → Int32} {w8 : Nat → Int32} {w9 : Nat → Int32} {w10 : Nat → Int32} {w11 : Nat → Int32} {w12 : Nat → Int32} {w13 : Nat → Int32} {w14 : Nat → Int32} {w15 : Nat → Int32} {w16 : Nat → Int32} {w17 : Nat → Int32} {w18 : Nat → Int32} {w19 : Nat → Int64} {w20 : Nat → Int64} {w21 : Nat → Int64} : (sgM_keep σ w0 w1 w2 w3 w4 w5 w6 w7 w8 w9 w10 w11 w12 w13 w14 w15 w16 w17 w18 w19 w20 w21).2.2.1 621 = w14 := rfl
theorem sgM_keep_raI624 {σ : Sto} {w0 : Int32} {w1 : Int32} {w2 : Int32} {w3 : Int32} {w4 : Int32} {w5 : Nat → Int32} {w6 : Nat → Int32} {w7 : Nat → Int32} {w8 : Nat → Int32} {w9 : Nat → Int32} {w10 : Nat → Int32} {w11 : Nat → Int32} {w12 : Nat → Int32} {w13 : Nat → Int32} {w14 : Nat → Int32} {w15 : Nat → Int32} {w16 : Nat → Int32} {w17 : Nat → Int32} {w18 : Nat → Int32} {w19 : Nat → Int64} {w20 : Nat → Int64} {w21 : Nat → Int64} : (sgM_keep σ w0 w1 w2 w3 w4 w5 w6 w7 w8 w9 w10 w11 w12 w13 w14 w15 w16 w17 w18 w19 w20 w21).2.2.1 624 = w15 := rfl
theorem sgM_keep_raI625 {σ : Sto} {w0 : Int32} {w1 : Int32} {w2 : Int32} {w3 : Int32} {w4 : Int32} {w5 : Nat → Int32} {w6 : Nat → Int32} {w7 : Nat → Int32} {w8 : Nat → Int32} {w9 : Nat → Int32} {w10 : Nat → Int32} {w11 : Nat → Int32} {w12 : Nat → Int32} {w13 : Nat → Int32} {w14 : Nat → Int32} {w15 : Nat → Int32} {w16 : Nat → Int32} {w17 : Nat → Int32} {w18 : Nat → Int32} {w19 : Nat → Int64} {w20 : Nat → Int64} {w21 : Nat → Int64} : (sgM_keep σ w0 w1 w2 w3 w4 w5 w6 w7 w8 w9 w10 w11 w12 w13 w14 w15 w16 w17 w18 w19 w20 w21).2.2.1 625 = w16 := rfl
theorem sgM_keep_raI632 {σ : Sto} {w0 : Int32} {w1 : Int32} {w2 : Int32} {w3 : Int32} {w4 : Int32} {w5 : Nat → Int32} {w6 : Nat → Int32} {w7 : Nat → Int32} {w8 : Nat → Int32} {w9 : Nat → Int32} {w10 : Nat → Int32} {w11 : Nat → Int32} {w12 : Nat → Int32} {w13 : Nat → Int32} {w14 : Nat → Int32} {w15 : Nat → Int32} {w16 : Nat → Int32} {w17 : Nat → Int32} {w18 : Nat → Int32} {w19 : Nat → Int64} {w20 : Nat → Int64} {w21 : Nat → Int64} : (sgM_keep σ w0 w1 w2 w3 w4 w5 w6 w7 w8 w9 w10 w11 w12 w13 w14 w15 w16 w17 w18 w19 w20 w21).2.2.1 632 = w17 := rfl
theorem sgM_keep_raI640 {σ : Sto} {w0 : Int32} {w1 : Int32} {w2 : Int32} {w3 : Int32} {w4 : Int32} {w5 : Nat → Int32} {w6 : Nat → Int32} {w7 : Nat → Int32} {w8 : Nat → Int32} {w9 : Nat → Int32} {w10 : Nat → Int32} {w11 : Nat → Int32} {w12 : Nat → Int32} {w13 : Nat → Int32} {w14 : Nat → Int32} {w15 : Nat → Int32} {w16 : Nat → Int32} {w17 : Nat → Int32} {w18 : Nat → Int32} {w19 : Nat → Int64} {w20 : Nat → Int64} {w21 : Nat → Int64} : (sgM_keep σ w0 w1 w2 w3 w4 w5 w6 w7 w8 w9 w10 w11 w12 w13 w14 w15 w16 w17 w18 w19 w20 w21).2.2.1 640 = w18 := rfl
theorem sgM_keep_raL626 {σ : Sto} {w0 : Int32} {w1 : Int32} {w2 : Int32} {w3 : Int32} {w4 : Int32} {w5 : Nat → Int32} {w6 : Nat → Int32} {w7 : Nat → Int32} {w8 : Nat → Int32} {w9 : Nat → Int32} {w10 : Nat → Int32} {w11 : Nat → Int32} {w12 : Nat → Int32} {w13 : Nat → Int32} {w14 : Nat → Int32} {w15 : Nat → Int32} {w16 : Nat → Int32} {w17 : Nat → Int32} {w18 : Nat → Int32} {w19 : Nat → Int64} {w20 : Nat → Int64} {w21 : Nat → Int64} : (sgM_keep σ w0 w1 w2 w3 w4 w5 w6 w7 w8 w9 w10 w11 w12 w13 w14 w15 w16 w17 w18 w19 w20 w21).2.2.2.1 626 = w19 := rfl
theorem sgM_keep_raL627 {σ : Sto} {w0 : Int32} {w1 : Int32} {w2 : Int32} {w3 : Int32} {w4 : Int32} {w5 : Nat → Int32} {w6 : Nat → Int32} {w7 : Nat → Int32} {w8 : Nat → Int32} {w9 : Nat → Int32} {w10 : Nat → Int32} {w11 : Nat → Int32} {w12 : Nat → Int32} {w13 : Nat → Int32} {w14 : Nat → Int32} {w15 : Nat → Int32} {w16 : Nat → Int32} {w17 : Nat → Int32} {w18 : Nat → Int32} {w19 : Nat → Int64} {w20 : Nat → Int64} {w21 : Nat → Int64} : (sgM_keep σ w0 w1 w2 w3 w4 w5 w6 w7 w8 w9 w10 w11 w12 w13 w14 w15 w16 w17 w18 w19 w20 w21).2.2.2.1 627 = w20 := rfl
theorem sgM_keep_raL628 {σ : Sto} {w0 : Int32} {w1 : Int32} {w2 : Int32} {w3 : Int32} {w4 : Int32} {w5 : Nat → Int32} {w6 : Nat → Int32} {w7 : Nat → Int32} {w8 : Nat → Int32} {w9 : Nat → Int32} {w10 : Nat → Int32} {w11 : Nat → Int32} {w12 : Nat → Int32} {w13 : Nat → Int32} {w14 : Nat → Int32} {w15 : Nat → Int32} {w16 : Nat → Int32} {w17 : Nat → Int32} {w18 : Nat → Int32} {w19 : Nat → Int64} {w20 : Nat → Int64} {w21 : Nat → Int64} : (sgM_keep σ w0 w1 w2 w3 w4 w5 w6 w7 w8 w9 w10 w11 w12 w13 w14 w15 w16 w17 w18 w19 w20 w21).2.2.2.1 628 = w21 := rfl
abbrev rmM_keep : Room := { frames := 5, cells := 0, slots := 0, locals := 123 }
set_option maxHeartbeats 4000000 in
theorem wkM_keep  {w_zI522 : Int32} {w_zI523 : Int32} {w_zI541 : Int32} {w_zI543 : Int32} {w_zI554 : Int32} {w_aI611 : Nat → Int32} {w_aI612 : Nat → Int32} {w_aI613 : Nat → Int32} {w_aI614 : Nat → Int32} {w_aI615 : Nat → Int32} {w_aI616 : Nat → Int32} {w_aI617 : Nat → Int32} {w_aI618 : Nat → Int32} {w_aI620 : Nat → Int32} {w_aI621 : Nat → Int32} {w_aI624 : Nat → Int32} {w_aI625 : Nat → Int32} {w_aI632 : Nat → Int32} {w_aI640 : Nat → Int32} {w_aL626 : Nat → Int64} {w_aL627 : Nat → Int64} {w_aL628 : Nat → Int64} (E : EN p s m args meth c0 RX16 cX16_keep 4 (Option.none : Option Jvm.ClassFile.FieldType)) (hK : KK D clsA G s) (hA : ∀ q, PA dscM ad s.heap.size q → A q) (hf : mo_keep (σ.1 522) (σ.1 523) (σ.1 541) (σ.1 543) (σ.1 554) (σ.2.2.1 611) (σ.2.2.1 612) (σ.2.2.1 613) (σ.2.2.1 614) (σ.2.2.1 615) (σ.2.2.1 616) (σ.2.2.1 617) (σ.2.2.1 618) (σ.2.2.1 620) (σ.2.2.1 621) (σ.2.2.1 624) (σ.2.2.1 625) (σ.2.2.1 632) (σ.2.2.1 640) (σ.2.2.2.1 626) (σ.2.2.2.1 627) (σ.2.2.2.1 628) = some (w_zI522, w_zI523, w_zI541, w_zI543, w_zI554, w_aI611, w_aI612, w_aI613, w_aI614, w_aI615, w_aI616, w_aI617, w_aI618, w_aI620, w_aI621, w_aI624, w_aI625, w_aI632, w_aI640, w_aL626, w_aL627, w_aL628)) (hQ : Q = MQ below (va_Qv (fun (_ : Unit) => True) (fun _ t => PM D G ad (sgM_keep σ w_zI522 w_zI523 w_zI541 w_zI543 w_zI554 w_aI611 w_aI612 w_aI613 w_aI614 w_aI615 w_aI616 w_aI617 w_aI618 w_aI620 w_aI621 w_aI624 w_aI625 w_aI632 w_aI640 w_aL626 w_aL627 w_aL628) t.heap ∧ KK D clsA G t) A) args s 0 0 A) (hP : PM D G ad σ H) (hS : va_S A s.heap H locs) (hl : lv_has ls 4 [(0, .ref (ad 500))]) : W p l e rmM_keep s m args below meth c0 H locs 0 0 Q (F0 m 0 ls []) := by
  obtain ⟨⟨hx, hb, hml, hown, hts⟩, hr, hlk⟩ := id E
  have hP := hP.to (sgM_keep_self σ).symm
  unfold mo_keep at hf
  refine lv_iconst hx hb dX16_keep_0 ic_0 ?_
  refine lv_istore_n (lv' := [(1, .int 0), (0, .ref (ad 500))]) hx hb dX16_keep_1 rfl hl (by decide) rfl (fun ls hl => ?_)
  have LP2 : ∀ (st2 : Int32 × (Nat → Int32)) (ex2 : ((Nat → Int32))), loop (mo_keep_L2) st2 = some ex2 → ∀ (H : Heap) (locs : List Loc), PM D G ad (sgM_keep σ (σ.1 522) (σ.1 523) (σ.1 541) (σ.1 543) (σ.1 554) (st2.2) (σ.2.2.1 612) (σ.2.2.1 613) (σ.2.2.1 614) (σ.2.2.1 615) (σ.2.2.1 616) (σ.2.2.1 617) (σ.2.2.1 618) (σ.2.2.1 620) (σ.2.2.1 621) (σ.2.2.1 624) (σ.2.2.1 625) (σ.2.2.1 632) (σ.2.2.1 640) (σ.2.2.2.1 626) (σ.2.2.2.1 627) (σ.2.2.2.1 628)) H → va_S A s.heap H locs → ∀ (ls : Array Slot), lv_has ls 4 [(0, .ref (ad 500)), (1, .int (st2.1))] → (∀ (a7 : Nat → Int32), ex2 = a7 → ∀ (H : Heap) (locs : List Loc), PM D G ad (sgM_keep σ (σ.1 522) (σ.1 523) (σ.1 541) (σ.1 543) (σ.1 554) a7 (σ.2.2.1 612) (σ.2.2.1 613) (σ.2.2.1 614) (σ.2.2.1 615) (σ.2.2.1 616) (σ.2.2.1 617) (σ.2.2.1 618) (σ.2.2.1 620) (σ.2.2.1 621) (σ.2.2.1 624) (σ.2.2.1 625) (σ.2.2.1 632) (σ.2.2.1 640) (σ.2.2.2.1 626) (σ.2.2.2.1 627) (σ.2.2.2.1 628)) H → va_S A s.heap H locs → ∀ (ls : Array Slot), lv_has ls 4 [(0, .ref (ad 500))] → W p l e rmM_keep s m args below meth c0 H locs 0 0 Q (F0 m 29 ls [])) → W p l e rmM_keep s m args below meth c0 H locs 0 0 Q (F0 m 2 ls []) := by
    refine loop_P (fun st2 ex2 o2 hf ih2 hx2 => ?_)
    obtain ⟨y1, a2⟩ := st2
    intro H locs (hP : PM D G ad (sgM_keep σ (σ.1 522) (σ.1 523) (σ.1 541) (σ.1 543) (σ.1 554) a2 (σ.2.2.1 612) (σ.2.2.1 613) (σ.2.2.1 614) (σ.2.2.1 615) (σ.2.2.1 616) (σ.2.2.1 617) (σ.2.2.1 618) (σ.2.2.1 620) (σ.2.2.1 621) (σ.2.2.1 624) (σ.2.2.1 625) (σ.2.2.1 632) (σ.2.2.1 640) (σ.2.2.2.1 626) (σ.2.2.2.1 627) (σ.2.2.2.1 628)) H) hS ls (hl : lv_has ls 4 [(0, .ref (ad 500)), (1, .int y1)]) KE2_0
    dsimp only [mo_keep_L2] at hf
    refine lv_iload_n hx hb dX16_keep_2 rfl (lv_at hl 1 rfl) ?_
    refine lv_bipush hx hb dX16_keep_3 bp_8 ?_
    refine lv_icmp_ge (tgt := 29) hx hb dX16_keep_5 (by decide) (fun c3 => ?_) (fun c3 => ?_)
    · have hf := ifT c3 hf
      exact KE2_0 _ (hx2 _ (Option.some.inj hf).symm).symm H locs hP hS ls (lv_sub hl [0] rfl)
    · have hf := ifF c3 hf
      refine lv_aload_n hx hb dX16_keep_8 rfl (lv_at hl 0 rfl) ?_
      refine gM_11 E hK hP dX16_keep_9 ?_
      refine lv_iload_n hx hb dX16_keep_12 rfl (lv_at hl 1 rfl) ?_
      refine lv_aload_n hx hb dX16_keep_13 rfl (lv_at hl 0 rfl) ?_
      refine gM_11 E hK hP dX16_keep_14 ?_
      refine lv_bipush hx hb dX16_keep_17 bp_8 ?_
      refine lv_iload_n hx hb dX16_keep_19 rfl (lv_at hl 1 rfl) ?_
      refine lv_iadd hx hb dX16_keep_20 ?_
      obtain ⟨v4, hv4, hf⟩ := bdP hf
      refine p_iald hx hb hK hP dM_611 sgM_keep_raI611 hv4 dX16_keep_21 ?_
      obtain ⟨a5, ha5, hf⟩ := bdP hf
      refine p_iast hx hb hK hP hS (hA _ (PA_c dM_611)) dM_611 sgM_keep_raI611 ha5 sgM_keep_aI611 dX16_keep_22 (fun H locs hP hS => ?_)
      obtain ⟨v6, hv6, hf⟩ := bdP hf
      refine lv_iinc (v := v6) (lv' := [(1, .int v6), (0, .ref (ad 500))]) hx hb dX16_keep_23 hl (k := 1) rfl (Option.some.inj hv6) (by decide) rfl (fun ls hl => ?_)
      refine lv_goto (tgt := 2) hx hb dX16_keep_26 (by decide) ?_
      exact ih2 _ (Option.some.inj hf).symm H locs hP hS ls (lv_sub hl [1, 0] rfl) KE2_0
  obtain ⟨ex2, hlp2, hf⟩ := bdP hf
  refine LP2 (0, (σ.2.2.1 611)) ex2 hlp2 H locs hP hS ls (lv_sub hl [1, 0] rfl) ?_
  intro a7 hex2 H locs hP hS ls hl
  subst ex2
  refine lv_iconst hx hb dX16_keep_29 ic_0 ?_
  refine lv_istore_n (lv' := [(1, .int 0), (0, .ref (ad 500))]) hx hb dX16_keep_30 rfl hl (by decide) rfl (fun ls hl => ?_)
  have LP31 : ∀ (st31 : Int32 × (Nat → Int32)) (ex31 : ((Nat → Int32))), loop (mo_keep_L31) st31 = some ex31 → ∀ (H : Heap) (locs : List Loc), PM D G ad (sgM_keep σ (σ.1 522) (σ.1 523) (σ.1 541) (σ.1 543) (σ.1 554) a7 (st31.2) (σ.2.2.1 613) (σ.2.2.1 614) (σ.2.2.1 615) (σ.2.2.1 616) (σ.2.2.1 617) (σ.2.2.1 618) (σ.2.2.1 620) (σ.2.2.1 621) (σ.2.2.1 624) (σ.2.2.1 625) (σ.2.2.1 632) (σ.2.2.1 640) (σ.2.2.2.1 626) (σ.2.2.2.1 627) (σ.2.2.2.1 628)) H → va_S A s.heap H locs → ∀ (ls : Array Slot), lv_has ls 4 [(0, .ref (ad 500)), (1, .int (st31.1))] → (∀ (a14 : Nat → Int32), ex31 = a14 → ∀ (H : Heap) (locs : List Loc), PM D G ad (sgM_keep σ (σ.1 522) (σ.1 523) (σ.1 541) (σ.1 543) (σ.1 554) a7 a14 (σ.2.2.1 613) (σ.2.2.1 614) (σ.2.2.1 615) (σ.2.2.1 616) (σ.2.2.1 617) (σ.2.2.1 618) (σ.2.2.1 620) (σ.2.2.1 621) (σ.2.2.1 624) (σ.2.2.1 625) (σ.2.2.1 632) (σ.2.2.1 640) (σ.2.2.2.1 626) (σ.2.2.2.1 627) (σ.2.2.2.1 628)) H → va_S A s.heap H locs → ∀ (ls : Array Slot), lv_has ls 4 [(0, .ref (ad 500))] → W p l e rmM_keep s m args below meth c0 H locs 0 0 Q (F0 m 58 ls [])) → W p l e rmM_keep s m args below meth c0 H locs 0 0 Q (F0 m 31 ls []) := by
    refine loop_P (fun st31 ex31 o31 hf ih31 hx31 => ?_)
    obtain ⟨y8, a9⟩ := st31
    intro H locs (hP : PM D G ad (sgM_keep σ (σ.1 522) (σ.1 523) (σ.1 541) (σ.1 543) (σ.1 554) a7 a9 (σ.2.2.1 613) (σ.2.2.1 614) (σ.2.2.1 615) (σ.2.2.1 616) (σ.2.2.1 617) (σ.2.2.1 618) (σ.2.2.1 620) (σ.2.2.1 621) (σ.2.2.1 624) (σ.2.2.1 625) (σ.2.2.1 632) (σ.2.2.1 640) (σ.2.2.2.1 626) (σ.2.2.2.1 627) (σ.2.2.2.1 628)) H) hS ls (hl : lv_has ls 4 [(0, .ref (ad 500)), (1, .int y8)]) KE31_0
    dsimp only [mo_keep_L31] at hf
    refine lv_iload_n hx hb dX16_keep_31 rfl (lv_at hl 1 rfl) ?_
    refine lv_bipush hx hb dX16_keep_32 bp_10 ?_
    refine lv_icmp_ge (tgt := 58) hx hb dX16_keep_34 (by decide) (fun c10 => ?_) (fun c10 => ?_)
    · have hf := ifT c10 hf
      exact KE31_0 _ (hx31 _ (Option.some.inj hf).symm).symm H locs hP hS ls (lv_sub hl [0] rfl)
    · have hf := ifF c10 hf
      refine lv_aload_n hx hb dX16_keep_37 rfl (lv_at hl 0 rfl) ?_
      refine gM_12 E hK hP dX16_keep_38 ?_
      refine lv_iload_n hx hb dX16_keep_41 rfl (lv_at hl 1 rfl) ?_
      refine lv_aload_n hx hb dX16_keep_42 rfl (lv_at hl 0 rfl) ?_
      refine gM_12 E hK hP dX16_keep_43 ?_
      refine lv_bipush hx hb dX16_keep_46 bp_10 ?_
      refine lv_iload_n hx hb dX16_keep_48 rfl (lv_at hl 1 rfl) ?_
      refine lv_iadd hx hb dX16_keep_49 ?_
      obtain ⟨v11, hv11, hf⟩ := bdP hf
      refine p_iald hx hb hK hP dM_612 sgM_keep_raI612 hv11 dX16_keep_50 ?_
      obtain ⟨a12, ha12, hf⟩ := bdP hf
      refine p_iast hx hb hK hP hS (hA _ (PA_c dM_612)) dM_612 sgM_keep_raI612 ha12 sgM_keep_aI612 dX16_keep_51 (fun H locs hP hS => ?_)
      obtain ⟨v13, hv13, hf⟩ := bdP hf
      refine lv_iinc (v := v13) (lv' := [(1, .int v13), (0, .ref (ad 500))]) hx hb dX16_keep_52 hl (k := 1) rfl (Option.some.inj hv13) (by decide) rfl (fun ls hl => ?_)
      refine lv_goto (tgt := 31) hx hb dX16_keep_55 (by decide) ?_
      exact ih31 _ (Option.some.inj hf).symm H locs hP hS ls (lv_sub hl [1, 0] rfl) KE31_0
  obtain ⟨ex31, hlp31, hf⟩ := bdP hf
  refine LP31 (0, (σ.2.2.1 612)) ex31 hlp31 H locs hP hS ls (lv_sub hl [1, 0] rfl) ?_
  intro a14 hex31 H locs hP hS ls hl
  subst ex31
  refine lv_iconst hx hb dX16_keep_58 ic_0 ?_
  refine lv_istore_n (lv' := [(1, .int 0), (0, .ref (ad 500))]) hx hb dX16_keep_59 rfl hl (by decide) rfl (fun ls hl => ?_)
  have LP60 : ∀ (st60 : Int32 × (Nat → Int32) × (Nat → Int32)) (ex60 : ((Nat → Int32) × (Nat → Int32))), loop (mo_keep_L60) st60 = some ex60 → ∀ (H : Heap) (locs : List Loc), PM D G ad (sgM_keep σ (σ.1 522) (σ.1 523) (σ.1 541) (σ.1 543) (σ.1 554) a7 a14 (st60.2.1) (st60.2.2) (σ.2.2.1 615) (σ.2.2.1 616) (σ.2.2.1 617) (σ.2.2.1 618) (σ.2.2.1 620) (σ.2.2.1 621) (σ.2.2.1 624) (σ.2.2.1 625) (σ.2.2.1 632) (σ.2.2.1 640) (σ.2.2.2.1 626) (σ.2.2.2.1 627) (σ.2.2.2.1 628)) H → va_S A s.heap H locs → ∀ (ls : Array Slot), lv_has ls 4 [(0, .ref (ad 500)), (1, .int (st60.1))] → (∀ (a24 : Nat → Int32) (a25 : Nat → Int32), ex60 = (a24, a25) → ∀ (H : Heap) (locs : List Loc), PM D G ad (sgM_keep σ (σ.1 522) (σ.1 523) (σ.1 541) (σ.1 543) (σ.1 554) a7 a14 a24 a25 (σ.2.2.1 615) (σ.2.2.1 616) (σ.2.2.1 617) (σ.2.2.1 618) (σ.2.2.1 620) (σ.2.2.1 621) (σ.2.2.1 624) (σ.2.2.1 625) (σ.2.2.1 632) (σ.2.2.1 640) (σ.2.2.2.1 626) (σ.2.2.2.1 627) (σ.2.2.2.1 628)) H → va_S A s.heap H locs → ∀ (ls : Array Slot), lv_has ls 4 [(0, .ref (ad 500))] → W p l e rmM_keep s m args below meth c0 H locs 0 0 Q (F0 m 99 ls [])) → W p l e rmM_keep s m args below meth c0 H locs 0 0 Q (F0 m 60 ls []) := by
    refine loop_P (fun st60 ex60 o60 hf ih60 hx60 => ?_)
    obtain ⟨y15, a16, a17⟩ := st60
    intro H locs (hP : PM D G ad (sgM_keep σ (σ.1 522) (σ.1 523) (σ.1 541) (σ.1 543) (σ.1 554) a7 a14 a16 a17 (σ.2.2.1 615) (σ.2.2.1 616) (σ.2.2.1 617) (σ.2.2.1 618) (σ.2.2.1 620) (σ.2.2.1 621) (σ.2.2.1 624) (σ.2.2.1 625) (σ.2.2.1 632) (σ.2.2.1 640) (σ.2.2.2.1 626) (σ.2.2.2.1 627) (σ.2.2.2.1 628)) H) hS ls (hl : lv_has ls 4 [(0, .ref (ad 500)), (1, .int y15)]) KE60_0
    dsimp only [mo_keep_L60] at hf
    refine lv_iload_n hx hb dX16_keep_60 rfl (lv_at hl 1 rfl) ?_
    refine lv_iconst hx hb dX16_keep_61 ic_2 ?_
    refine lv_icmp_ge (tgt := 99) hx hb dX16_keep_62 (by decide) (fun c18 => ?_) (fun c18 => ?_)
    · have hf := ifT c18 hf
      exact KE60_0 _ _ (hx60 _ (Option.some.inj hf).symm).symm H locs hP hS ls (lv_sub hl [0] rfl)
    · have hf := ifF c18 hf
      refine lv_aload_n hx hb dX16_keep_65 rfl (lv_at hl 0 rfl) ?_
      refine gM_13 E hK hP dX16_keep_66 ?_
      refine lv_iload_n hx hb dX16_keep_69 rfl (lv_at hl 1 rfl) ?_
      refine lv_aload_n hx hb dX16_keep_70 rfl (lv_at hl 0 rfl) ?_
      refine gM_13 E hK hP dX16_keep_71 ?_
      refine lv_iconst hx hb dX16_keep_74 ic_2 ?_
      refine lv_iload_n hx hb dX16_keep_75 rfl (lv_at hl 1 rfl) ?_
      refine lv_iadd hx hb dX16_keep_76 ?_
      obtain ⟨v19, hv19, hf⟩ := bdP hf
      refine p_iald hx hb hK hP dM_613 sgM_keep_raI613 hv19 dX16_keep_77 ?_
      obtain ⟨a20, ha20, hf⟩ := bdP hf
      refine p_iast hx hb hK hP hS (hA _ (PA_c dM_613)) dM_613 sgM_keep_raI613 ha20 sgM_keep_aI613 dX16_keep_78 (fun H locs hP hS => ?_)
      refine lv_aload_n hx hb dX16_keep_79 rfl (lv_at hl 0 rfl) ?_
      refine gM_14 E hK hP dX16_keep_80 ?_
      refine lv_iload_n hx hb dX16_keep_83 rfl (lv_at hl 1 rfl) ?_
      refine lv_aload_n hx hb dX16_keep_84 rfl (lv_at hl 0 rfl) ?_
      refine gM_14 E hK hP dX16_keep_85 ?_
      refine lv_iconst hx hb dX16_keep_88 ic_2 ?_
      refine lv_iload_n hx hb dX16_keep_89 rfl (lv_at hl 1 rfl) ?_
      refine lv_iadd hx hb dX16_keep_90 ?_
      obtain ⟨v21, hv21, hf⟩ := bdP hf
      refine p_iald hx hb hK hP dM_614 sgM_keep_raI614 hv21 dX16_keep_91 ?_
      obtain ⟨a22, ha22, hf⟩ := bdP hf
      refine p_iast hx hb hK hP hS (hA _ (PA_c dM_614)) dM_614 sgM_keep_raI614 ha22 sgM_keep_aI614 dX16_keep_92 (fun H locs hP hS => ?_)
      obtain ⟨v23, hv23, hf⟩ := bdP hf
      refine lv_iinc (v := v23) (lv' := [(1, .int v23), (0, .ref (ad 500))]) hx hb dX16_keep_93 hl (k := 1) rfl (Option.some.inj hv23) (by decide) rfl (fun ls hl => ?_)
      refine lv_goto (tgt := 60) hx hb dX16_keep_96 (by decide) ?_
      exact ih60 _ (Option.some.inj hf).symm H locs hP hS ls (lv_sub hl [1, 0] rfl) KE60_0
  obtain ⟨ex60, hlp60, hf⟩ := bdP hf
  refine LP60 (0, (σ.2.2.1 613), (σ.2.2.1 614)) ex60 hlp60 H locs hP hS ls (lv_sub hl [1, 0] rfl) ?_
  intro a24 a25 hex60 H locs hP hS ls hl
  subst ex60
  dsimp only at hf
  refine lv_iconst hx hb dX16_keep_99 ic_0 ?_
  refine lv_istore_n (lv' := [(1, .int 0), (0, .ref (ad 500))]) hx hb dX16_keep_100 rfl hl (by decide) rfl (fun ls hl => ?_)
  have LP101 : ∀ (st101 : Int32 × (Nat → Int32)) (ex101 : ((Nat → Int32))), loop (mo_keep_L101) st101 = some ex101 → ∀ (H : Heap) (locs : List Loc), PM D G ad (sgM_keep σ (σ.1 522) (σ.1 523) (σ.1 541) (σ.1 543) (σ.1 554) a7 a14 a24 a25 (st101.2) (σ.2.2.1 616) (σ.2.2.1 617) (σ.2.2.1 618) (σ.2.2.1 620) (σ.2.2.1 621) (σ.2.2.1 624) (σ.2.2.1 625) (σ.2.2.1 632) (σ.2.2.1 640) (σ.2.2.2.1 626) (σ.2.2.2.1 627) (σ.2.2.2.1 628)) H → va_S A s.heap H locs → ∀ (ls : Array Slot), lv_has ls 4 [(0, .ref (ad 500)), (1, .int (st101.1))] → (∀ (a32 : Nat → Int32), ex101 = a32 → ∀ (H : Heap) (locs : List Loc), PM D G ad (sgM_keep σ (σ.1 522) (σ.1 523) (σ.1 541) (σ.1 543) (σ.1 554) a7 a14 a24 a25 a32 (σ.2.2.1 616) (σ.2.2.1 617) (σ.2.2.1 618) (σ.2.2.1 620) (σ.2.2.1 621) (σ.2.2.1 624) (σ.2.2.1 625) (σ.2.2.1 632) (σ.2.2.1 640) (σ.2.2.2.1 626) (σ.2.2.2.1 627) (σ.2.2.2.1 628)) H → va_S A s.heap H locs → ∀ (ls : Array Slot), lv_has ls 4 [(0, .ref (ad 500))] → W p l e rmM_keep s m args below meth c0 H locs 0 0 Q (F0 m 130 ls [])) → W p l e rmM_keep s m args below meth c0 H locs 0 0 Q (F0 m 101 ls []) := by
    refine loop_P (fun st101 ex101 o101 hf ih101 hx101 => ?_)
    obtain ⟨y26, a27⟩ := st101
    intro H locs (hP : PM D G ad (sgM_keep σ (σ.1 522) (σ.1 523) (σ.1 541) (σ.1 543) (σ.1 554) a7 a14 a24 a25 a27 (σ.2.2.1 616) (σ.2.2.1 617) (σ.2.2.1 618) (σ.2.2.1 620) (σ.2.2.1 621) (σ.2.2.1 624) (σ.2.2.1 625) (σ.2.2.1 632) (σ.2.2.1 640) (σ.2.2.2.1 626) (σ.2.2.2.1 627) (σ.2.2.2.1 628)) H) hS ls (hl : lv_has ls 4 [(0, .ref (ad 500)), (1, .int y26)]) KE101_0
    dsimp only [mo_keep_L101] at hf
    refine lv_iload_n hx hb dX16_keep_101 rfl (lv_at hl 1 rfl) ?_
    refine lv_sipush hx hb dX16_keep_102 sp_168 ?_
    refine lv_icmp_ge (tgt := 130) hx hb dX16_keep_105 (by decide) (fun c28 => ?_) (fun c28 => ?_)
    · have hf := ifT c28 hf
      exact KE101_0 _ (hx101 _ (Option.some.inj hf).symm).symm H locs hP hS ls (lv_sub hl [0] rfl)
    · have hf := ifF c28 hf
      refine lv_aload_n hx hb dX16_keep_108 rfl (lv_at hl 0 rfl) ?_
      refine gM_15 E hK hP dX16_keep_109 ?_
      refine lv_iload_n hx hb dX16_keep_112 rfl (lv_at hl 1 rfl) ?_
      refine lv_aload_n hx hb dX16_keep_113 rfl (lv_at hl 0 rfl) ?_
      refine gM_15 E hK hP dX16_keep_114 ?_
      refine lv_sipush hx hb dX16_keep_117 sp_168 ?_
      refine lv_iload_n hx hb dX16_keep_120 rfl (lv_at hl 1 rfl) ?_
      refine lv_iadd hx hb dX16_keep_121 ?_
      obtain ⟨v29, hv29, hf⟩ := bdP hf
      refine p_iald hx hb hK hP dM_615 sgM_keep_raI615 hv29 dX16_keep_122 ?_
      obtain ⟨a30, ha30, hf⟩ := bdP hf
      refine p_iast hx hb hK hP hS (hA _ (PA_c dM_615)) dM_615 sgM_keep_raI615 ha30 sgM_keep_aI615 dX16_keep_123 (fun H locs hP hS => ?_)
      obtain ⟨v31, hv31, hf⟩ := bdP hf
      refine lv_iinc (v := v31) (lv' := [(1, .int v31), (0, .ref (ad 500))]) hx hb dX16_keep_124 hl (k := 1) rfl (Option.some.inj hv31) (by decide) rfl (fun ls hl => ?_)
      refine lv_goto (tgt := 101) hx hb dX16_keep_127 (by decide) ?_
      exact ih101 _ (Option.some.inj hf).symm H locs hP hS ls (lv_sub hl [1, 0] rfl) KE101_0
  obtain ⟨ex101, hlp101, hf⟩ := bdP hf
  refine LP101 (0, (σ.2.2.1 615)) ex101 hlp101 H locs hP hS ls (lv_sub hl [1, 0] rfl) ?_
  intro a32 hex101 H locs hP hS ls hl
  subst ex101
  refine lv_iconst hx hb dX16_keep_130 ic_0 ?_
  refine lv_istore_n (lv' := [(1, .int 0), (0, .ref (ad 500))]) hx hb dX16_keep_131 rfl hl (by decide) rfl (fun ls hl => ?_)
  have LP132 : ∀ (st132 : Int32 × (Nat → Int32)) (ex132 : ((Nat → Int32))), loop (mo_keep_L132) st132 = some ex132 → ∀ (H : Heap) (locs : List Loc), PM D G ad (sgM_keep σ (σ.1 522) (σ.1 523) (σ.1 541) (σ.1 543) (σ.1 554) a7 a14 a24 a25 a32 (st132.2) (σ.2.2.1 617) (σ.2.2.1 618) (σ.2.2.1 620) (σ.2.2.1 621) (σ.2.2.1 624) (σ.2.2.1 625) (σ.2.2.1 632) (σ.2.2.1 640) (σ.2.2.2.1 626) (σ.2.2.2.1 627) (σ.2.2.2.1 628)) H → va_S A s.heap H locs → ∀ (ls : Array Slot), lv_has ls 4 [(0, .ref (ad 500)), (1, .int (st132.1))] → (∀ (a39 : Nat → Int32), ex132 = a39 → ∀ (H : Heap) (locs : List Loc), PM D G ad (sgM_keep σ (σ.1 522) (σ.1 523) (σ.1 541) (σ.1 543) (σ.1 554) a7 a14 a24 a25 a32 a39 (σ.2.2.1 617) (σ.2.2.1 618) (σ.2.2.1 620) (σ.2.2.1 621) (σ.2.2.1 624) (σ.2.2.1 625) (σ.2.2.1 632) (σ.2.2.1 640) (σ.2.2.2.1 626) (σ.2.2.2.1 627) (σ.2.2.2.1 628)) H → va_S A s.heap H locs → ∀ (ls : Array Slot), lv_has ls 4 [(0, .ref (ad 500))] → W p l e rmM_keep s m args below meth c0 H locs 0 0 Q (F0 m 159 ls [])) → W p l e rmM_keep s m args below meth c0 H locs 0 0 Q (F0 m 132 ls []) := by
    refine loop_P (fun st132 ex132 o132 hf ih132 hx132 => ?_)
    obtain ⟨y33, a34⟩ := st132
    intro H locs (hP : PM D G ad (sgM_keep σ (σ.1 522) (σ.1 523) (σ.1 541) (σ.1 543) (σ.1 554) a7 a14 a24 a25 a32 a34 (σ.2.2.1 617) (σ.2.2.1 618) (σ.2.2.1 620) (σ.2.2.1 621) (σ.2.2.1 624) (σ.2.2.1 625) (σ.2.2.1 632) (σ.2.2.1 640) (σ.2.2.2.1 626) (σ.2.2.2.1 627) (σ.2.2.2.1 628)) H) hS ls (hl : lv_has ls 4 [(0, .ref (ad 500)), (1, .int y33)]) KE132_0
    dsimp only [mo_keep_L132] at hf
    refine lv_iload_n hx hb dX16_keep_132 rfl (lv_at hl 1 rfl) ?_
    refine lv_bipush hx hb dX16_keep_133 bp_6 ?_
    refine lv_icmp_ge (tgt := 159) hx hb dX16_keep_135 (by decide) (fun c35 => ?_) (fun c35 => ?_)
    · have hf := ifT c35 hf
      exact KE132_0 _ (hx132 _ (Option.some.inj hf).symm).symm H locs hP hS ls (lv_sub hl [0] rfl)
    · have hf := ifF c35 hf
      refine lv_aload_n hx hb dX16_keep_138 rfl (lv_at hl 0 rfl) ?_
      refine gM_16 E hK hP dX16_keep_139 ?_
      refine lv_iload_n hx hb dX16_keep_142 rfl (lv_at hl 1 rfl) ?_
      refine lv_aload_n hx hb dX16_keep_143 rfl (lv_at hl 0 rfl) ?_
      refine gM_16 E hK hP dX16_keep_144 ?_
      refine lv_bipush hx hb dX16_keep_147 bp_6 ?_
      refine lv_iload_n hx hb dX16_keep_149 rfl (lv_at hl 1 rfl) ?_
      refine lv_iadd hx hb dX16_keep_150 ?_
      obtain ⟨v36, hv36, hf⟩ := bdP hf
      refine p_iald hx hb hK hP dM_616 sgM_keep_raI616 hv36 dX16_keep_151 ?_
      obtain ⟨a37, ha37, hf⟩ := bdP hf
      refine p_iast hx hb hK hP hS (hA _ (PA_c dM_616)) dM_616 sgM_keep_raI616 ha37 sgM_keep_aI616 dX16_keep_152 (fun H locs hP hS => ?_)
      obtain ⟨v38, hv38, hf⟩ := bdP hf
      refine lv_iinc (v := v38) (lv' := [(1, .int v38), (0, .ref (ad 500))]) hx hb dX16_keep_153 hl (k := 1) rfl (Option.some.inj hv38) (by decide) rfl (fun ls hl => ?_)
      refine lv_goto (tgt := 132) hx hb dX16_keep_156 (by decide) ?_
      exact ih132 _ (Option.some.inj hf).symm H locs hP hS ls (lv_sub hl [1, 0] rfl) KE132_0
  obtain ⟨ex132, hlp132, hf⟩ := bdP hf
  refine LP132 (0, (σ.2.2.1 616)) ex132 hlp132 H locs hP hS ls (lv_sub hl [1, 0] rfl) ?_
  intro a39 hex132 H locs hP hS ls hl
  subst ex132
  refine lv_iconst hx hb dX16_keep_159 ic_0 ?_
  refine lv_istore_n (lv' := [(1, .int 0), (0, .ref (ad 500))]) hx hb dX16_keep_160 rfl hl (by decide) rfl (fun ls hl => ?_)
  have LP161 : ∀ (st161 : Int32 × (Nat → Int32)) (ex161 : ((Nat → Int32))), loop (mo_keep_L161) st161 = some ex161 → ∀ (H : Heap) (locs : List Loc), PM D G ad (sgM_keep σ (σ.1 522) (σ.1 523) (σ.1 541) (σ.1 543) (σ.1 554) a7 a14 a24 a25 a32 a39 (st161.2) (σ.2.2.1 618) (σ.2.2.1 620) (σ.2.2.1 621) (σ.2.2.1 624) (σ.2.2.1 625) (σ.2.2.1 632) (σ.2.2.1 640) (σ.2.2.2.1 626) (σ.2.2.2.1 627) (σ.2.2.2.1 628)) H → va_S A s.heap H locs → ∀ (ls : Array Slot), lv_has ls 4 [(0, .ref (ad 500)), (1, .int (st161.1))] → (∀ (a46 : Nat → Int32), ex161 = a46 → ∀ (H : Heap) (locs : List Loc), PM D G ad (sgM_keep σ (σ.1 522) (σ.1 523) (σ.1 541) (σ.1 543) (σ.1 554) a7 a14 a24 a25 a32 a39 a46 (σ.2.2.1 618) (σ.2.2.1 620) (σ.2.2.1 621) (σ.2.2.1 624) (σ.2.2.1 625) (σ.2.2.1 632) (σ.2.2.1 640) (σ.2.2.2.1 626) (σ.2.2.2.1 627) (σ.2.2.2.1 628)) H → va_S A s.heap H locs → ∀ (ls : Array Slot), lv_has ls 4 [(0, .ref (ad 500))] → W p l e rmM_keep s m args below meth c0 H locs 0 0 Q (F0 m 188 ls [])) → W p l e rmM_keep s m args below meth c0 H locs 0 0 Q (F0 m 161 ls []) := by
    refine loop_P (fun st161 ex161 o161 hf ih161 hx161 => ?_)
    obtain ⟨y40, a41⟩ := st161
    intro H locs (hP : PM D G ad (sgM_keep σ (σ.1 522) (σ.1 523) (σ.1 541) (σ.1 543) (σ.1 554) a7 a14 a24 a25 a32 a39 a41 (σ.2.2.1 618) (σ.2.2.1 620) (σ.2.2.1 621) (σ.2.2.1 624) (σ.2.2.1 625) (σ.2.2.1 632) (σ.2.2.1 640) (σ.2.2.2.1 626) (σ.2.2.2.1 627) (σ.2.2.2.1 628)) H) hS ls (hl : lv_has ls 4 [(0, .ref (ad 500)), (1, .int y40)]) KE161_0
    dsimp only [mo_keep_L161] at hf
    refine lv_iload_n hx hb dX16_keep_161 rfl (lv_at hl 1 rfl) ?_
    refine lv_bipush hx hb dX16_keep_162 bp_16 ?_
    refine lv_icmp_ge (tgt := 188) hx hb dX16_keep_164 (by decide) (fun c42 => ?_) (fun c42 => ?_)
    · have hf := ifT c42 hf
      exact KE161_0 _ (hx161 _ (Option.some.inj hf).symm).symm H locs hP hS ls (lv_sub hl [0] rfl)
    · have hf := ifF c42 hf
      refine lv_aload_n hx hb dX16_keep_167 rfl (lv_at hl 0 rfl) ?_
      refine gM_17 E hK hP dX16_keep_168 ?_
      refine lv_iload_n hx hb dX16_keep_171 rfl (lv_at hl 1 rfl) ?_
      refine lv_aload_n hx hb dX16_keep_172 rfl (lv_at hl 0 rfl) ?_
      refine gM_17 E hK hP dX16_keep_173 ?_
      refine lv_bipush hx hb dX16_keep_176 bp_16 ?_
      refine lv_iload_n hx hb dX16_keep_178 rfl (lv_at hl 1 rfl) ?_
      refine lv_iadd hx hb dX16_keep_179 ?_
      obtain ⟨v43, hv43, hf⟩ := bdP hf
      refine p_iald hx hb hK hP dM_617 sgM_keep_raI617 hv43 dX16_keep_180 ?_
      obtain ⟨a44, ha44, hf⟩ := bdP hf
      refine p_iast hx hb hK hP hS (hA _ (PA_c dM_617)) dM_617 sgM_keep_raI617 ha44 sgM_keep_aI617 dX16_keep_181 (fun H locs hP hS => ?_)
      obtain ⟨v45, hv45, hf⟩ := bdP hf
      refine lv_iinc (v := v45) (lv' := [(1, .int v45), (0, .ref (ad 500))]) hx hb dX16_keep_182 hl (k := 1) rfl (Option.some.inj hv45) (by decide) rfl (fun ls hl => ?_)
      refine lv_goto (tgt := 161) hx hb dX16_keep_185 (by decide) ?_
      exact ih161 _ (Option.some.inj hf).symm H locs hP hS ls (lv_sub hl [1, 0] rfl) KE161_0
  obtain ⟨ex161, hlp161, hf⟩ := bdP hf
  refine LP161 (0, (σ.2.2.1 617)) ex161 hlp161 H locs hP hS ls (lv_sub hl [1, 0] rfl) ?_
  intro a46 hex161 H locs hP hS ls hl
  subst ex161
  refine lv_iconst hx hb dX16_keep_188 ic_0 ?_
  refine lv_istore_n (lv' := [(1, .int 0), (0, .ref (ad 500))]) hx hb dX16_keep_189 rfl hl (by decide) rfl (fun ls hl => ?_)
  have LP190 : ∀ (st190 : Int32 × (Nat → Int32)) (ex190 : ((Nat → Int32))), loop (mo_keep_L190) st190 = some ex190 → ∀ (H : Heap) (locs : List Loc), PM D G ad (sgM_keep σ (σ.1 522) (σ.1 523) (σ.1 541) (σ.1 543) (σ.1 554) a7 a14 a24 a25 a32 a39 a46 (st190.2) (σ.2.2.1 620) (σ.2.2.1 621) (σ.2.2.1 624) (σ.2.2.1 625) (σ.2.2.1 632) (σ.2.2.1 640) (σ.2.2.2.1 626) (σ.2.2.2.1 627) (σ.2.2.2.1 628)) H → va_S A s.heap H locs → ∀ (ls : Array Slot), lv_has ls 4 [(0, .ref (ad 500)), (1, .int (st190.1))] → (∀ (a53 : Nat → Int32), ex190 = a53 → ∀ (H : Heap) (locs : List Loc), PM D G ad (sgM_keep σ (σ.1 522) (σ.1 523) (σ.1 541) (σ.1 543) (σ.1 554) a7 a14 a24 a25 a32 a39 a46 a53 (σ.2.2.1 620) (σ.2.2.1 621) (σ.2.2.1 624) (σ.2.2.1 625) (σ.2.2.1 632) (σ.2.2.1 640) (σ.2.2.2.1 626) (σ.2.2.2.1 627) (σ.2.2.2.1 628)) H → va_S A s.heap H locs → ∀ (ls : Array Slot), lv_has ls 4 [(0, .ref (ad 500))] → W p l e rmM_keep s m args below meth c0 H locs 0 0 Q (F0 m 217 ls [])) → W p l e rmM_keep s m args below meth c0 H locs 0 0 Q (F0 m 190 ls []) := by
    refine loop_P (fun st190 ex190 o190 hf ih190 hx190 => ?_)
    obtain ⟨y47, a48⟩ := st190
    intro H locs (hP : PM D G ad (sgM_keep σ (σ.1 522) (σ.1 523) (σ.1 541) (σ.1 543) (σ.1 554) a7 a14 a24 a25 a32 a39 a46 a48 (σ.2.2.1 620) (σ.2.2.1 621) (σ.2.2.1 624) (σ.2.2.1 625) (σ.2.2.1 632) (σ.2.2.1 640) (σ.2.2.2.1 626) (σ.2.2.2.1 627) (σ.2.2.2.1 628)) H) hS ls (hl : lv_has ls 4 [(0, .ref (ad 500)), (1, .int y47)]) KE190_0
    dsimp only [mo_keep_L190] at hf
    refine lv_iload_n hx hb dX16_keep_190 rfl (lv_at hl 1 rfl) ?_
    refine lv_bipush hx hb dX16_keep_191 bp_18 ?_
    refine lv_icmp_ge (tgt := 217) hx hb dX16_keep_193 (by decide) (fun c49 => ?_) (fun c49 => ?_)
    · have hf := ifT c49 hf
      exact KE190_0 _ (hx190 _ (Option.some.inj hf).symm).symm H locs hP hS ls (lv_sub hl [0] rfl)
    · have hf := ifF c49 hf
      refine lv_aload_n hx hb dX16_keep_196 rfl (lv_at hl 0 rfl) ?_
      refine gM_18 E hK hP dX16_keep_197 ?_
      refine lv_iload_n hx hb dX16_keep_200 rfl (lv_at hl 1 rfl) ?_
      refine lv_aload_n hx hb dX16_keep_201 rfl (lv_at hl 0 rfl) ?_
      refine gM_18 E hK hP dX16_keep_202 ?_
      refine lv_bipush hx hb dX16_keep_205 bp_18 ?_
      refine lv_iload_n hx hb dX16_keep_207 rfl (lv_at hl 1 rfl) ?_
      refine lv_iadd hx hb dX16_keep_208 ?_
      obtain ⟨v50, hv50, hf⟩ := bdP hf
      refine p_iald hx hb hK hP dM_618 sgM_keep_raI618 hv50 dX16_keep_209 ?_
      obtain ⟨a51, ha51, hf⟩ := bdP hf
      refine p_iast hx hb hK hP hS (hA _ (PA_c dM_618)) dM_618 sgM_keep_raI618 ha51 sgM_keep_aI618 dX16_keep_210 (fun H locs hP hS => ?_)
      obtain ⟨v52, hv52, hf⟩ := bdP hf
      refine lv_iinc (v := v52) (lv' := [(1, .int v52), (0, .ref (ad 500))]) hx hb dX16_keep_211 hl (k := 1) rfl (Option.some.inj hv52) (by decide) rfl (fun ls hl => ?_)
      refine lv_goto (tgt := 190) hx hb dX16_keep_214 (by decide) ?_
      exact ih190 _ (Option.some.inj hf).symm H locs hP hS ls (lv_sub hl [1, 0] rfl) KE190_0
  obtain ⟨ex190, hlp190, hf⟩ := bdP hf
  refine LP190 (0, (σ.2.2.1 618)) ex190 hlp190 H locs hP hS ls (lv_sub hl [1, 0] rfl) ?_
  intro a53 hex190 H locs hP hS ls hl
  subst ex190
  refine lv_iconst hx hb dX16_keep_217 ic_0 ?_
  refine lv_istore_n (lv' := [(1, .int 0), (0, .ref (ad 500))]) hx hb dX16_keep_218 rfl hl (by decide) rfl (fun ls hl => ?_)
  have LP219 : ∀ (st219 : Int32 × (Nat → Int32)) (ex219 : ((Nat → Int32))), loop (mo_keep_L219) st219 = some ex219 → ∀ (H : Heap) (locs : List Loc), PM D G ad (sgM_keep σ (σ.1 522) (σ.1 523) (σ.1 541) (σ.1 543) (σ.1 554) a7 a14 a24 a25 a32 a39 a46 a53 (σ.2.2.1 620) (st219.2) (σ.2.2.1 624) (σ.2.2.1 625) (σ.2.2.1 632) (σ.2.2.1 640) (σ.2.2.2.1 626) (σ.2.2.2.1 627) (σ.2.2.2.1 628)) H → va_S A s.heap H locs → ∀ (ls : Array Slot), lv_has ls 4 [(0, .ref (ad 500)), (1, .int (st219.1))] → (∀ (a59 : Nat → Int32), ex219 = a59 → ∀ (H : Heap) (locs : List Loc), PM D G ad (sgM_keep σ (σ.1 522) (σ.1 523) (σ.1 541) (σ.1 543) (σ.1 554) a7 a14 a24 a25 a32 a39 a46 a53 (σ.2.2.1 620) a59 (σ.2.2.1 624) (σ.2.2.1 625) (σ.2.2.1 632) (σ.2.2.1 640) (σ.2.2.2.1 626) (σ.2.2.2.1 627) (σ.2.2.2.1 628)) H → va_S A s.heap H locs → ∀ (ls : Array Slot), lv_has ls 4 [(0, .ref (ad 500))] → W p l e rmM_keep s m args below meth c0 H locs 0 0 Q (F0 m 238 ls [])) → W p l e rmM_keep s m args below meth c0 H locs 0 0 Q (F0 m 219 ls []) := by
    refine loop_P (fun st219 ex219 o219 hf ih219 hx219 => ?_)
    obtain ⟨y54, a55⟩ := st219
    intro H locs (hP : PM D G ad (sgM_keep σ (σ.1 522) (σ.1 523) (σ.1 541) (σ.1 543) (σ.1 554) a7 a14 a24 a25 a32 a39 a46 a53 (σ.2.2.1 620) a55 (σ.2.2.1 624) (σ.2.2.1 625) (σ.2.2.1 632) (σ.2.2.1 640) (σ.2.2.2.1 626) (σ.2.2.2.1 627) (σ.2.2.2.1 628)) H) hS ls (hl : lv_has ls 4 [(0, .ref (ad 500)), (1, .int y54)]) KE219_0
    dsimp only [mo_keep_L219] at hf
    refine lv_iload_n hx hb dX16_keep_219 rfl (lv_at hl 1 rfl) ?_
    refine lv_bipush hx hb dX16_keep_220 bp_100 ?_
    refine lv_icmp_ge (tgt := 238) hx hb dX16_keep_222 (by decide) (fun c56 => ?_) (fun c56 => ?_)
    · have hf := ifT c56 hf
      exact KE219_0 _ (hx219 _ (Option.some.inj hf).symm).symm H locs hP hS ls (lv_sub hl [0] rfl)
    · have hf := ifF c56 hf
      refine lv_aload_n hx hb dX16_keep_225 rfl (lv_at hl 0 rfl) ?_
      refine gM_21 E hK hP dX16_keep_226 ?_
      refine lv_iload_n hx hb dX16_keep_229 rfl (lv_at hl 1 rfl) ?_
      refine lv_iconst hx hb dX16_keep_230 ic_m1 ?_
      obtain ⟨a57, ha57, hf⟩ := bdP hf
      refine p_iast hx hb hK hP hS (hA _ (PA_c dM_621)) dM_621 sgM_keep_raI621 ha57 sgM_keep_aI621 dX16_keep_231 (fun H locs hP hS => ?_)
      obtain ⟨v58, hv58, hf⟩ := bdP hf
      refine lv_iinc (v := v58) (lv' := [(1, .int v58), (0, .ref (ad 500))]) hx hb dX16_keep_232 hl (k := 1) rfl (Option.some.inj hv58) (by decide) rfl (fun ls hl => ?_)
      refine lv_goto (tgt := 219) hx hb dX16_keep_235 (by decide) ?_
      exact ih219 _ (Option.some.inj hf).symm H locs hP hS ls (lv_sub hl [1, 0] rfl) KE219_0
  obtain ⟨ex219, hlp219, hf⟩ := bdP hf
  refine LP219 (0, (σ.2.2.1 621)) ex219 hlp219 H locs hP hS ls (lv_sub hl [1, 0] rfl) ?_
  intro a59 hex219 H locs hP hS ls hl
  subst ex219
  refine lv_iconst hx hb dX16_keep_238 ic_0 ?_
  refine lv_istore_n (lv' := [(1, .int 0), (0, .ref (ad 500))]) hx hb dX16_keep_239 rfl hl (by decide) rfl (fun ls hl => ?_)
  have LP240 : ∀ (st240 : Int32 × (Nat → Int32)) (ex240 : ((Nat → Int32))), loop (mo_keep_L240) st240 = some ex240 → ∀ (H : Heap) (locs : List Loc), PM D G ad (sgM_keep σ (σ.1 522) (σ.1 523) (σ.1 541) (σ.1 543) (σ.1 554) a7 a14 a24 a25 a32 a39 a46 a53 (st240.2) a59 (σ.2.2.1 624) (σ.2.2.1 625) (σ.2.2.1 632) (σ.2.2.1 640) (σ.2.2.2.1 626) (σ.2.2.2.1 627) (σ.2.2.2.1 628)) H → va_S A s.heap H locs → ∀ (ls : Array Slot), lv_has ls 4 [(0, .ref (ad 500)), (1, .int (st240.1))] → (∀ (a65 : Nat → Int32), ex240 = a65 → ∀ (H : Heap) (locs : List Loc), PM D G ad (sgM_keep σ (σ.1 522) (σ.1 523) (σ.1 541) (σ.1 543) (σ.1 554) a7 a14 a24 a25 a32 a39 a46 a53 a65 a59 (σ.2.2.1 624) (σ.2.2.1 625) (σ.2.2.1 632) (σ.2.2.1 640) (σ.2.2.2.1 626) (σ.2.2.2.1 627) (σ.2.2.2.1 628)) H → va_S A s.heap H locs → ∀ (ls : Array Slot), lv_has ls 4 [(0, .ref (ad 500))] → W p l e rmM_keep s m args below meth c0 H locs 0 0 Q (F0 m 259 ls [])) → W p l e rmM_keep s m args below meth c0 H locs 0 0 Q (F0 m 240 ls []) := by
    refine loop_P (fun st240 ex240 o240 hf ih240 hx240 => ?_)
    obtain ⟨y60, a61⟩ := st240
    intro H locs (hP : PM D G ad (sgM_keep σ (σ.1 522) (σ.1 523) (σ.1 541) (σ.1 543) (σ.1 554) a7 a14 a24 a25 a32 a39 a46 a53 a61 a59 (σ.2.2.1 624) (σ.2.2.1 625) (σ.2.2.1 632) (σ.2.2.1 640) (σ.2.2.2.1 626) (σ.2.2.2.1 627) (σ.2.2.2.1 628)) H) hS ls (hl : lv_has ls 4 [(0, .ref (ad 500)), (1, .int y60)]) KE240_0
    dsimp only [mo_keep_L240] at hf
    refine lv_iload_n hx hb dX16_keep_240 rfl (lv_at hl 1 rfl) ?_
    refine lv_bipush hx hb dX16_keep_241 bp_10 ?_
    refine lv_icmp_ge (tgt := 259) hx hb dX16_keep_243 (by decide) (fun c62 => ?_) (fun c62 => ?_)
    · have hf := ifT c62 hf
      exact KE240_0 _ (hx240 _ (Option.some.inj hf).symm).symm H locs hP hS ls (lv_sub hl [0] rfl)
    · have hf := ifF c62 hf
      refine lv_aload_n hx hb dX16_keep_246 rfl (lv_at hl 0 rfl) ?_
      refine gM_20 E hK hP dX16_keep_247 ?_
      refine lv_iload_n hx hb dX16_keep_250 rfl (lv_at hl 1 rfl) ?_
      refine lv_iconst hx hb dX16_keep_251 ic_0 ?_
      obtain ⟨a63, ha63, hf⟩ := bdP hf
      refine p_iast hx hb hK hP hS (hA _ (PA_c dM_620)) dM_620 sgM_keep_raI620 ha63 sgM_keep_aI620 dX16_keep_252 (fun H locs hP hS => ?_)
      obtain ⟨v64, hv64, hf⟩ := bdP hf
      refine lv_iinc (v := v64) (lv' := [(1, .int v64), (0, .ref (ad 500))]) hx hb dX16_keep_253 hl (k := 1) rfl (Option.some.inj hv64) (by decide) rfl (fun ls hl => ?_)
      refine lv_goto (tgt := 240) hx hb dX16_keep_256 (by decide) ?_
      exact ih240 _ (Option.some.inj hf).symm H locs hP hS ls (lv_sub hl [1, 0] rfl) KE240_0
  obtain ⟨ex240, hlp240, hf⟩ := bdP hf
  refine LP240 (0, (σ.2.2.1 620)) ex240 hlp240 H locs hP hS ls (lv_sub hl [1, 0] rfl) ?_
  intro a65 hex240 H locs hP hS ls hl
  subst ex240
  refine lv_iconst hx hb dX16_keep_259 ic_0 ?_
  refine lv_istore_n (lv' := [(1, .int 0), (0, .ref (ad 500))]) hx hb dX16_keep_260 rfl hl (by decide) rfl (fun ls hl => ?_)
  have LP261 : ∀ (st261 : Int32 × (Nat → Int32) × (Nat → Int32)) (ex261 : ((Nat → Int32) × (Nat → Int32))), loop (mo_keep_L261 a7 a32) st261 = some ex261 → ∀ (H : Heap) (locs : List Loc), PM D G ad (sgM_keep σ (σ.1 522) (σ.1 523) (σ.1 541) (σ.1 543) (σ.1 554) a7 a14 a24 a25 a32 a39 a46 a53 (st261.2.1) (st261.2.2) (σ.2.2.1 624) (σ.2.2.1 625) (σ.2.2.1 632) (σ.2.2.1 640) (σ.2.2.2.1 626) (σ.2.2.2.1 627) (σ.2.2.2.1 628)) H → va_S A s.heap H locs → ∀ (ls : Array Slot), lv_has ls 4 [(0, .ref (ad 500)), (1, .int (st261.1))] → (∀ (a90 : Nat → Int32) (a91 : Nat → Int32), ex261 = (a90, a91) → ∀ (H : Heap) (locs : List Loc), PM D G ad (sgM_keep σ (σ.1 522) (σ.1 523) (σ.1 541) (σ.1 543) (σ.1 554) a7 a14 a24 a25 a32 a39 a46 a53 a90 a91 (σ.2.2.1 624) (σ.2.2.1 625) (σ.2.2.1 632) (σ.2.2.1 640) (σ.2.2.2.1 626) (σ.2.2.2.1 627) (σ.2.2.2.1 628)) H → va_S A s.heap H locs → ∀ (ls : Array Slot), lv_has ls 4 [(0, .ref (ad 500))] → W p l e rmM_keep s m args below meth c0 H locs 0 0 Q (F0 m 397 ls [])) → W p l e rmM_keep s m args below meth c0 H locs 0 0 Q (F0 m 261 ls []) := by
    refine loop_P (fun st261 ex261 o261 hf ih261 hx261 => ?_)
    obtain ⟨y66, a67, a68⟩ := st261
    intro H locs (hP : PM D G ad (sgM_keep σ (σ.1 522) (σ.1 523) (σ.1 541) (σ.1 543) (σ.1 554) a7 a14 a24 a25 a32 a39 a46 a53 a67 a68 (σ.2.2.1 624) (σ.2.2.1 625) (σ.2.2.1 632) (σ.2.2.1 640) (σ.2.2.2.1 626) (σ.2.2.2.1 627) (σ.2.2.2.1 628)) H) hS ls (hl : lv_has ls 4 [(0, .ref (ad 500)), (1, .int y66)]) KE261_0
    dsimp only [mo_keep_L261] at hf
    refine lv_iload_n hx hb dX16_keep_261 rfl (lv_at hl 1 rfl) ?_
    refine lv_aload_n hx hb dX16_keep_262 rfl (lv_at hl 0 rfl) ?_
    refine gM_11 E hK hP dX16_keep_263 ?_
    refine lv_iconst hx hb dX16_keep_266 ic_2 ?_
    obtain ⟨v69, hv69, hf⟩ := bdP hf
    refine p_iald hx hb hK hP dM_611 sgM_keep_raI611 hv69 dX16_keep_267 ?_
    refine lv_icmp_ge (tgt := 397) hx hb dX16_keep_268 (by decide) (fun c70 => ?_) (fun c70 => ?_)
    · have hf := ifT c70 hf
      exact KE261_0 _ _ (hx261 _ (Option.some.inj hf).symm).symm H locs hP hS ls (lv_sub hl [0] rfl)
    · have hf := ifF c70 hf
      refine lv_bipush hx hb dX16_keep_271 bp_7 ?_
      refine lv_iload_n hx hb dX16_keep_273 rfl (lv_at hl 1 rfl) ?_
      refine lv_imul hx hb dX16_keep_274 ?_
      obtain ⟨v71, hv71, hf⟩ := bdP hf
      refine nm_i (Option.some.inj hv71) ?_
      refine lv_istore_n (lv' := [(2, .int v71), (0, .ref (ad 500)), (1, .int y66)]) hx hb dX16_keep_275 rfl hl (by decide) rfl (fun ls hl => ?_)
      refine lv_aload_n hx hb dX16_keep_276 rfl (lv_at hl 1 rfl) ?_
      refine gM_21 E hK hP dX16_keep_277 ?_
      refine lv_bipush hx hb dX16_keep_280 bp_10 ?_
      refine lv_aload_n hx hb dX16_keep_282 rfl (lv_at hl 1 rfl) ?_
      refine gM_15 E hK hP dX16_keep_283 ?_
      refine lv_iload_n hx hb dX16_keep_286 rfl (lv_at hl 0 rfl) ?_
      obtain ⟨v72, hv72, hf⟩ := bdP hf
      refine p_iald hx hb hK hP dM_615 sgM_keep_raI615 hv72 dX16_keep_287 ?_
      refine lv_imul hx hb dX16_keep_288 ?_
      refine lv_aload_n hx hb dX16_keep_289 rfl (lv_at hl 1 rfl) ?_
      refine gM_15 E hK hP dX16_keep_290 ?_
      refine lv_iload_n hx hb dX16_keep_293 rfl (lv_at hl 0 rfl) ?_
      refine lv_iconst hx hb dX16_keep_294 ic_1 ?_
      refine lv_iadd hx hb dX16_keep_295 ?_
      obtain ⟨v73, hv73, hf⟩ := bdP hf
      refine p_iald hx hb hK hP dM_615 sgM_keep_raI615 hv73 dX16_keep_296 ?_
      refine lv_iadd hx hb dX16_keep_297 ?_
      refine lv_iload_n hx hb dX16_keep_298 rfl (lv_at hl 2 rfl) ?_
      obtain ⟨a74, ha74, hf⟩ := bdP hf
      refine p_iast hx hb hK hP hS (hA _ (PA_c dM_621)) dM_621 sgM_keep_raI621 ha74 sgM_keep_aI621 dX16_keep_299 (fun H locs hP hS => ?_)
      refine lv_aload_n hx hb dX16_keep_300 rfl (lv_at hl 1 rfl) ?_
      refine gM_21 E hK hP dX16_keep_301 ?_
      refine lv_bipush hx hb dX16_keep_304 bp_10 ?_
      refine lv_aload_n hx hb dX16_keep_306 rfl (lv_at hl 1 rfl) ?_
      refine gM_15 E hK hP dX16_keep_307 ?_
      refine lv_iload_n hx hb dX16_keep_310 rfl (lv_at hl 0 rfl) ?_
      refine lv_iconst hx hb dX16_keep_311 ic_1 ?_
      refine lv_iadd hx hb dX16_keep_312 ?_
      obtain ⟨v75, hv75, hf⟩ := bdP hf
      refine p_iald hx hb hK hP dM_615 sgM_keep_raI615 hv75 dX16_keep_313 ?_
      refine lv_imul hx hb dX16_keep_314 ?_
      refine lv_aload_n hx hb dX16_keep_315 rfl (lv_at hl 1 rfl) ?_
      refine gM_15 E hK hP dX16_keep_316 ?_
      refine lv_iload_n hx hb dX16_keep_319 rfl (lv_at hl 0 rfl) ?_
      obtain ⟨v76, hv76, hf⟩ := bdP hf
      refine p_iald hx hb hK hP dM_615 sgM_keep_raI615 hv76 dX16_keep_320 ?_
      refine lv_iadd hx hb dX16_keep_321 ?_
      refine lv_iload_n hx hb dX16_keep_322 rfl (lv_at hl 2 rfl) ?_
      obtain ⟨a77, ha77, hf⟩ := bdP hf
      refine p_iast hx hb hK hP hS (hA _ (PA_c dM_621)) dM_621 sgM_keep_raI621 ha77 sgM_keep_aI621 dX16_keep_323 (fun H locs hP hS => ?_)
      refine lv_aload_n hx hb dX16_keep_324 rfl (lv_at hl 1 rfl) ?_
      refine gM_15 E hK hP dX16_keep_325 ?_
      refine lv_iload_n hx hb dX16_keep_328 rfl (lv_at hl 0 rfl) ?_
      refine lv_bipush hx hb dX16_keep_329 bp_6 ?_
      refine lv_iadd hx hb dX16_keep_331 ?_
      obtain ⟨v78, hv78, hf⟩ := bdP hf
      refine p_iald hx hb hK hP dM_615 sgM_keep_raI615 hv78 dX16_keep_332 ?_
      have J391 : ∀ (a79 : Nat → Int32), mo_keep_J391 y66 a77 a79 = some o261 → ∀ (H : Heap) (locs : List Loc), PM D G ad (sgM_keep σ (σ.1 522) (σ.1 523) (σ.1 541) (σ.1 543) (σ.1 554) a7 a14 a24 a25 a32 a39 a46 a53 a79 a77 (σ.2.2.1 624) (σ.2.2.1 625) (σ.2.2.1 632) (σ.2.2.1 640) (σ.2.2.2.1 626) (σ.2.2.2.1 627) (σ.2.2.2.1 628)) H → va_S A s.heap H locs → ∀ (ls : Array Slot), lv_has ls 4 [(0, .ref (ad 500)), (1, .int y66)] → W p l e rmM_keep s m args below meth c0 H locs 0 0 Q (F0 m 391 ls []) := by
        intro a79 hf H locs hP hS ls hl
        unfold mo_keep_J391 at hf
        obtain ⟨v80, hv80, hf⟩ := bdP hf
        refine lv_iinc (v := v80) (lv' := [(1, .int v80), (0, .ref (ad 500))]) hx hb dX16_keep_391 hl (k := 1) rfl (Option.some.inj hv80) (by decide) rfl (fun ls hl => ?_)
        refine lv_goto (tgt := 261) hx hb dX16_keep_394 (by decide) ?_
        exact ih261 _ (Option.some.inj hf).symm H locs hP hS ls (lv_sub hl [1, 0] rfl) KE261_0
      refine lv_if_ge (tgt := 339) hx hb dX16_keep_333 (by decide) (fun c81 => ?_) (fun c81 => ?_)
      · have hf := ifT c81 hf
        refine lv_aload_n hx hb dX16_keep_339 rfl (lv_at hl 1 rfl) ?_
        refine gM_20 E hK hP dX16_keep_340 ?_
        refine lv_aload_n hx hb dX16_keep_343 rfl (lv_at hl 1 rfl) ?_
        refine gM_15 E hK hP dX16_keep_344 ?_
        refine lv_iload_n hx hb dX16_keep_347 rfl (lv_at hl 0 rfl) ?_
        obtain ⟨v82, hv82, hf⟩ := bdP hf
        refine p_iald hx hb hK hP dM_615 sgM_keep_raI615 hv82 dX16_keep_348 ?_
        refine lv_dup2_11 hx hb dX16_keep_349 rfl rfl ?_
        obtain ⟨v83, hv83, hf⟩ := bdP hf
        refine p_iald hx hb hK hP dM_620 sgM_keep_raI620 hv83 dX16_keep_350 ?_
        refine lv_iconst hx hb dX16_keep_351 ic_1 ?_
        refine lv_aload_n hx hb dX16_keep_352 rfl (lv_at hl 1 rfl) ?_
        refine gM_15 E hK hP dX16_keep_353 ?_
        refine lv_iload_n hx hb dX16_keep_356 rfl (lv_at hl 0 rfl) ?_
        refine lv_bipush hx hb dX16_keep_357 bp_6 ?_
        refine lv_iadd hx hb dX16_keep_359 ?_
        obtain ⟨v84, hv84, hf⟩ := bdP hf
        refine p_iald hx hb hK hP dM_615 sgM_keep_raI615 hv84 dX16_keep_360 ?_
        refine lv_ishl hx hb dX16_keep_361 ?_
        refine lv_ior hx hb dX16_keep_362 ?_
        obtain ⟨a85, ha85, hf⟩ := bdP hf
        refine p_iast hx hb hK hP hS (hA _ (PA_c dM_620)) dM_620 sgM_keep_raI620 ha85 sgM_keep_aI620 dX16_keep_363 (fun H locs hP hS => ?_)
        refine lv_aload_n hx hb dX16_keep_364 rfl (lv_at hl 1 rfl) ?_
        refine gM_20 E hK hP dX16_keep_365 ?_
        refine lv_aload_n hx hb dX16_keep_368 rfl (lv_at hl 1 rfl) ?_
        refine gM_15 E hK hP dX16_keep_369 ?_
        refine lv_iload_n hx hb dX16_keep_372 rfl (lv_at hl 0 rfl) ?_
        refine lv_iconst hx hb dX16_keep_373 ic_1 ?_
        refine lv_iadd hx hb dX16_keep_374 ?_
        obtain ⟨v86, hv86, hf⟩ := bdP hf
        refine p_iald hx hb hK hP dM_615 sgM_keep_raI615 hv86 dX16_keep_375 ?_
        refine lv_dup2_11 hx hb dX16_keep_376 rfl rfl ?_
        obtain ⟨v87, hv87, hf⟩ := bdP hf
        refine p_iald hx hb hK hP dM_620 sgM_keep_raI620 hv87 dX16_keep_377 ?_
        refine lv_iconst hx hb dX16_keep_378 ic_1 ?_
        refine lv_aload_n hx hb dX16_keep_379 rfl (lv_at hl 1 rfl) ?_
        refine gM_15 E hK hP dX16_keep_380 ?_
        refine lv_iload_n hx hb dX16_keep_383 rfl (lv_at hl 0 rfl) ?_
        refine lv_bipush hx hb dX16_keep_384 bp_6 ?_
        refine lv_iadd hx hb dX16_keep_386 ?_
        obtain ⟨v88, hv88, hf⟩ := bdP hf
        refine p_iald hx hb hK hP dM_615 sgM_keep_raI615 hv88 dX16_keep_387 ?_
        refine lv_ishl hx hb dX16_keep_388 ?_
        refine lv_ior hx hb dX16_keep_389 ?_
        obtain ⟨a89, ha89, hf⟩ := bdP hf
        refine p_iast hx hb hK hP hS (hA _ (PA_c dM_620)) dM_620 sgM_keep_raI620 ha89 sgM_keep_aI620 dX16_keep_390 (fun H locs hP hS => ?_)
        exact J391 a89 hf H locs hP hS ls (lv_sub hl [1, 2] rfl)
      · have hf := ifF c81 hf
        refine lv_goto (tgt := 391) hx hb dX16_keep_336 (by decide) ?_
        exact J391 a67 hf H locs hP hS ls (lv_sub hl [1, 2] rfl)
  obtain ⟨ex261, hlp261, hf⟩ := bdP hf
  refine LP261 (0, a65, a59) ex261 hlp261 H locs hP hS ls (lv_sub hl [1, 0] rfl) ?_
  intro a90 a91 hex261 H locs hP hS ls hl
  subst ex261
  dsimp only at hf
  refine lv_iconst hx hb dX16_keep_397 ic_0 ?_
  refine lv_istore_n (lv' := [(1, .int 0), (0, .ref (ad 500))]) hx hb dX16_keep_398 rfl hl (by decide) rfl (fun ls hl => ?_)
  have LP399 : ∀ (st399 : Int32 × (Nat → Int32)) (ex399 : ((Nat → Int32))), loop (mo_keep_L399 a7 a46) st399 = some ex399 → ∀ (H : Heap) (locs : List Loc), PM D G ad (sgM_keep σ (σ.1 522) (σ.1 523) (σ.1 541) (σ.1 543) (σ.1 554) a7 a14 a24 a25 a32 a39 a46 a53 (st399.2) a91 (σ.2.2.1 624) (σ.2.2.1 625) (σ.2.2.1 632) (σ.2.2.1 640) (σ.2.2.2.1 626) (σ.2.2.2.1 627) (σ.2.2.2.1 628)) H → va_S A s.heap H locs → ∀ (ls : Array Slot), lv_has ls 4 [(0, .ref (ad 500)), (1, .int (st399.1))] → (∀ (a101 : Nat → Int32), ex399 = a101 → ∀ (H : Heap) (locs : List Loc), PM D G ad (sgM_keep σ (σ.1 522) (σ.1 523) (σ.1 541) (σ.1 543) (σ.1 554) a7 a14 a24 a25 a32 a39 a46 a53 a101 a91 (σ.2.2.1 624) (σ.2.2.1 625) (σ.2.2.1 632) (σ.2.2.1 640) (σ.2.2.2.1 626) (σ.2.2.2.1 627) (σ.2.2.2.1 628)) H → va_S A s.heap H locs → ∀ (ls : Array Slot), lv_has ls 4 [(0, .ref (ad 500))] → W p l e rmM_keep s m args below meth c0 H locs 0 0 Q (F0 m 443 ls [])) → W p l e rmM_keep s m args below meth c0 H locs 0 0 Q (F0 m 399 ls []) := by
    refine loop_P (fun st399 ex399 o399 hf ih399 hx399 => ?_)
    obtain ⟨y92, a93⟩ := st399
    intro H locs (hP : PM D G ad (sgM_keep σ (σ.1 522) (σ.1 523) (σ.1 541) (σ.1 543) (σ.1 554) a7 a14 a24 a25 a32 a39 a46 a53 a93 a91 (σ.2.2.1 624) (σ.2.2.1 625) (σ.2.2.1 632) (σ.2.2.1 640) (σ.2.2.2.1 626) (σ.2.2.2.1 627) (σ.2.2.2.1 628)) H) hS ls (hl : lv_has ls 4 [(0, .ref (ad 500)), (1, .int y92)]) KE399_0
    dsimp only [mo_keep_L399] at hf
    refine lv_iload_n hx hb dX16_keep_399 rfl (lv_at hl 1 rfl) ?_
    refine lv_aload_n hx hb dX16_keep_400 rfl (lv_at hl 0 rfl) ?_
    refine gM_11 E hK hP dX16_keep_401 ?_
    refine lv_iconst hx hb dX16_keep_404 ic_4 ?_
    obtain ⟨v94, hv94, hf⟩ := bdP hf
    refine p_iald hx hb hK hP dM_611 sgM_keep_raI611 hv94 dX16_keep_405 ?_
    refine lv_icmp_ge (tgt := 443) hx hb dX16_keep_406 (by decide) (fun c95 => ?_) (fun c95 => ?_)
    · have hf := ifT c95 hf
      exact KE399_0 _ (hx399 _ (Option.some.inj hf).symm).symm H locs hP hS ls (lv_sub hl [0] rfl)
    · have hf := ifF c95 hf
      refine lv_aload_n hx hb dX16_keep_409 rfl (lv_at hl 0 rfl) ?_
      refine gM_20 E hK hP dX16_keep_410 ?_
      refine lv_aload_n hx hb dX16_keep_413 rfl (lv_at hl 0 rfl) ?_
      refine gM_17 E hK hP dX16_keep_414 ?_
      refine lv_iconst hx hb dX16_keep_417 ic_2 ?_
      refine lv_iload_n hx hb dX16_keep_418 rfl (lv_at hl 1 rfl) ?_
      refine lv_imul hx hb dX16_keep_419 ?_
      obtain ⟨v96, hv96, hf⟩ := bdP hf
      refine p_iald hx hb hK hP dM_617 sgM_keep_raI617 hv96 dX16_keep_420 ?_
      refine lv_dup2_11 hx hb dX16_keep_421 rfl rfl ?_
      obtain ⟨v97, hv97, hf⟩ := bdP hf
      refine p_iald hx hb hK hP dM_620 sgM_keep_raI620 hv97 dX16_keep_422 ?_
      refine lv_iconst hx hb dX16_keep_423 ic_1 ?_
      refine lv_aload_n hx hb dX16_keep_424 rfl (lv_at hl 0 rfl) ?_
      refine gM_17 E hK hP dX16_keep_425 ?_
      refine lv_iconst hx hb dX16_keep_428 ic_2 ?_
      refine lv_iload_n hx hb dX16_keep_429 rfl (lv_at hl 1 rfl) ?_
      refine lv_imul hx hb dX16_keep_430 ?_
      refine lv_iconst hx hb dX16_keep_431 ic_1 ?_
      refine lv_iadd hx hb dX16_keep_432 ?_
      obtain ⟨v98, hv98, hf⟩ := bdP hf
      refine p_iald hx hb hK hP dM_617 sgM_keep_raI617 hv98 dX16_keep_433 ?_
      refine lv_ishl hx hb dX16_keep_434 ?_
      refine lv_ior hx hb dX16_keep_435 ?_
      obtain ⟨a99, ha99, hf⟩ := bdP hf
      refine p_iast hx hb hK hP hS (hA _ (PA_c dM_620)) dM_620 sgM_keep_raI620 ha99 sgM_keep_aI620 dX16_keep_436 (fun H locs hP hS => ?_)
      obtain ⟨v100, hv100, hf⟩ := bdP hf
      refine lv_iinc (v := v100) (lv' := [(1, .int v100), (0, .ref (ad 500))]) hx hb dX16_keep_437 hl (k := 1) rfl (Option.some.inj hv100) (by decide) rfl (fun ls hl => ?_)
      refine lv_goto (tgt := 399) hx hb dX16_keep_440 (by decide) ?_
      exact ih399 _ (Option.some.inj hf).symm H locs hP hS ls (lv_sub hl [1, 0] rfl) KE399_0
  obtain ⟨ex399, hlp399, hf⟩ := bdP hf
  refine LP399 (0, a90) ex399 hlp399 H locs hP hS ls (lv_sub hl [1, 0] rfl) ?_
  intro a101 hex399 H locs hP hS ls hl
  subst ex399
  refine lv_aload_n hx hb dX16_keep_443 rfl (lv_at hl 0 rfl) ?_
  refine lv_iconst hx hb dX16_keep_444 ic_1 ?_
  refine lv_aload_n hx hb dX16_keep_445 rfl (lv_at hl 0 rfl) ?_
  obtain ⟨v102, u103, hf⟩ := bdP hf
  refine cM_doubts E hK hP hS hA sgM_keep_raI611 u103 ⟨Nat.le_of_ble_eq_true rfl, Nat.le_of_ble_eq_true rfl⟩ ⟨Nat.zero_le _, Nat.zero_le _⟩ hl.1 (Nat.le_of_ble_eq_true rfl) dX16_keep_446 (fun H locs hP hS => ?_)
  refine lv_ishl hx hb dX16_keep_449 ?_
  obtain ⟨v104, hv104, hf⟩ := bdP hf
  refine nm_i (Option.some.inj hv104) ?_
  refine uM_22 E hK hP hS (hA _ (PA_c dM_500)) sgM_keep_zI522 dX16_keep_450 (fun H locs hP hS => ?_)
  refine lv_aload_n hx hb dX16_keep_453 rfl (lv_at hl 0 rfl) ?_
  refine lv_iconst hx hb dX16_keep_454 ic_1 ?_
  refine uM_23 E hK hP hS (hA _ (PA_c dM_500)) sgM_keep_zI523 dX16_keep_455 (fun H locs hP hS => ?_)
  refine lv_iconst hx hb dX16_keep_458 ic_0 ?_
  refine lv_istore_n (lv' := [(1, .int 0), (0, .ref (ad 500))]) hx hb dX16_keep_459 rfl hl (by decide) rfl (fun ls hl => ?_)
  have LP460 : ∀ (st460 : Int32 × Int32 × (Nat → Int32)) (ex460 : (Int32 × (Nat → Int32))), loop (mo_keep_L460 a7) st460 = some ex460 → ∀ (H : Heap) (locs : List Loc), PM D G ad (sgM_keep σ v104 (st460.2.1) (σ.1 541) (σ.1 543) (σ.1 554) a7 a14 a24 a25 a32 a39 a46 a53 a101 a91 (st460.2.2) (σ.2.2.1 625) (σ.2.2.1 632) (σ.2.2.1 640) (σ.2.2.2.1 626) (σ.2.2.2.1 627) (σ.2.2.2.1 628)) H → va_S A s.heap H locs → ∀ (ls : Array Slot), lv_has ls 4 [(0, .ref (ad 500)), (1, .int (st460.1))] → (∀ (z120 : Int32) (a121 : Nat → Int32), ex460 = (z120, a121) → ∀ (H : Heap) (locs : List Loc), PM D G ad (sgM_keep σ v104 z120 (σ.1 541) (σ.1 543) (σ.1 554) a7 a14 a24 a25 a32 a39 a46 a53 a101 a91 a121 (σ.2.2.1 625) (σ.2.2.1 632) (σ.2.2.1 640) (σ.2.2.2.1 626) (σ.2.2.2.1 627) (σ.2.2.2.1 628)) H → va_S A s.heap H locs → ∀ (ls : Array Slot), lv_has ls 4 [(0, .ref (ad 500))] → W p l e rmM_keep s m args below meth c0 H locs 0 0 Q (F0 m 514 ls [])) → W p l e rmM_keep s m args below meth c0 H locs 0 0 Q (F0 m 460 ls []) := by
    refine loop_P (fun st460 ex460 o460 hf ih460 hx460 => ?_)
    obtain ⟨y105, z106, a107⟩ := st460
    intro H locs (hP : PM D G ad (sgM_keep σ v104 z106 (σ.1 541) (σ.1 543) (σ.1 554) a7 a14 a24 a25 a32 a39 a46 a53 a101 a91 a107 (σ.2.2.1 625) (σ.2.2.1 632) (σ.2.2.1 640) (σ.2.2.2.1 626) (σ.2.2.2.1 627) (σ.2.2.2.1 628)) H) hS ls (hl : lv_has ls 4 [(0, .ref (ad 500)), (1, .int y105)]) KE460_0
    dsimp only [mo_keep_L460] at hf
    refine lv_iload_n hx hb dX16_keep_460 rfl (lv_at hl 1 rfl) ?_
    refine lv_bipush hx hb dX16_keep_461 bp_7 ?_
    refine lv_icmp_ge (tgt := 514) hx hb dX16_keep_463 (by decide) (fun c108 => ?_) (fun c108 => ?_)
    · have hf := ifT c108 hf
      exact KE460_0 _ _ (hx460 _ (Option.some.inj hf).symm).symm H locs hP hS ls (lv_sub hl [0] rfl)
    · have hf := ifF c108 hf
      refine lv_aload_n hx hb dX16_keep_466 rfl (lv_at hl 0 rfl) ?_
      refine gM_24 E hK hP dX16_keep_467 ?_
      refine lv_iload_n hx hb dX16_keep_470 rfl (lv_at hl 1 rfl) ?_
      refine lv_iload_n hx hb dX16_keep_471 rfl (lv_at hl 1 rfl) ?_
      have J489 : ∀ (k109 : Int32) (k110 : Int32), mo_keep_J489 a7 y105 z106 a107 k109 k110 = some o460 → ∀ (H : Heap) (locs : List Loc), PM D G ad (sgM_keep σ v104 z106 (σ.1 541) (σ.1 543) (σ.1 554) a7 a14 a24 a25 a32 a39 a46 a53 a101 a91 a107 (σ.2.2.1 625) (σ.2.2.1 632) (σ.2.2.1 640) (σ.2.2.2.1 626) (σ.2.2.2.1 627) (σ.2.2.2.1 628)) H → va_S A s.heap H locs → ∀ (ls : Array Slot), lv_has ls 4 [(0, .ref (ad 500)), (1, .int y105)] → W p l e rmM_keep s m args below meth c0 H locs 0 0 Q (F0 m 489 ls [.int k109, .int k110, .ref (ad 624)]) := by
        intro k109 k110 hf H locs hP hS ls hl
        unfold mo_keep_J489 at hf
        obtain ⟨a111, ha111, hf⟩ := bdP hf
        refine p_iast hx hb hK hP hS (hA _ (PA_c dM_624)) dM_624 sgM_keep_raI624 ha111 sgM_keep_aI624 dX16_keep_489 (fun H locs hP hS => ?_)
        refine lv_iload_n hx hb dX16_keep_490 rfl (lv_at hl 1 rfl) ?_
        refine lv_aload_n hx hb dX16_keep_491 rfl (lv_at hl 0 rfl) ?_
        obtain ⟨v112, u113, hf⟩ := bdP hf
        refine cM_doubts E hK hP hS hA sgM_keep_raI611 u113 ⟨Nat.le_of_ble_eq_true rfl, Nat.le_of_ble_eq_true rfl⟩ ⟨Nat.zero_le _, Nat.zero_le _⟩ hl.1 (Nat.le_of_ble_eq_true rfl) dX16_keep_492 (fun H locs hP hS => ?_)
        have J508 : ∀ (z114 : Int32), mo_keep_J508 y105 a111 z114 = some o460 → ∀ (H : Heap) (locs : List Loc), PM D G ad (sgM_keep σ v104 z114 (σ.1 541) (σ.1 543) (σ.1 554) a7 a14 a24 a25 a32 a39 a46 a53 a101 a91 a111 (σ.2.2.1 625) (σ.2.2.1 632) (σ.2.2.1 640) (σ.2.2.2.1 626) (σ.2.2.2.1 627) (σ.2.2.2.1 628)) H → va_S A s.heap H locs → ∀ (ls : Array Slot), lv_has ls 4 [(0, .ref (ad 500)), (1, .int y105)] → W p l e rmM_keep s m args below meth c0 H locs 0 0 Q (F0 m 508 ls []) := by
          intro z114 hf H locs hP hS ls hl
          unfold mo_keep_J508 at hf
          obtain ⟨v115, hv115, hf⟩ := bdP hf
          refine lv_iinc (v := v115) (lv' := [(1, .int v115), (0, .ref (ad 500))]) hx hb dX16_keep_508 hl (k := 1) rfl (Option.some.inj hv115) (by decide) rfl (fun ls hl => ?_)
          refine lv_goto (tgt := 460) hx hb dX16_keep_511 (by decide) ?_
          exact ih460 _ (Option.some.inj hf).symm H locs hP hS ls (lv_sub hl [1, 0] rfl) KE460_0
        refine lv_icmp_ge (tgt := 508) hx hb dX16_keep_495 (by decide) (fun c116 => ?_) (fun c116 => ?_)
        · have hf := ifT c116 hf
          exact J508 z106 hf H locs hP hS ls (lv_sub hl [0, 1] rfl)
        · have hf := ifF c116 hf
          refine lv_aload_n hx hb dX16_keep_498 rfl (lv_at hl 0 rfl) ?_
          refine lv_dup hx hb dX16_keep_499 rfl ?_
          refine gM_23 (v := z106) E hK hP sgM_keep_rzI523 dX16_keep_500 ?_
          refine lv_iconst hx hb dX16_keep_503 ic_3 ?_
          refine lv_imul hx hb dX16_keep_504 ?_
          obtain ⟨v117, hv117, hf⟩ := bdP hf
          refine nm_i (Option.some.inj hv117) ?_
          refine uM_23 E hK hP hS (hA _ (PA_c dM_500)) sgM_keep_zI523 dX16_keep_505 (fun H locs hP hS => ?_)
          exact J508 v117 hf H locs hP hS ls (lv_sub hl [0, 1] rfl)
      refine lv_if_ne (tgt := 479) hx hb dX16_keep_472 (by decide) (fun c118 => ?_) (fun c118 => ?_)
      · have hf := ifF c118 hf
        refine lv_iconst hx hb dX16_keep_479 ic_3 ?_
        refine lv_aload_n hx hb dX16_keep_480 rfl (lv_at hl 0 rfl) ?_
        refine gM_24 E hK hP dX16_keep_481 ?_
        refine lv_iload_n hx hb dX16_keep_484 rfl (lv_at hl 1 rfl) ?_
        refine lv_iconst hx hb dX16_keep_485 ic_1 ?_
        refine lv_isub hx hb dX16_keep_486 ?_
        obtain ⟨v119, hv119, hf⟩ := bdP hf
        refine p_iald hx hb hK hP dM_624 sgM_keep_raI624 hv119 dX16_keep_487 ?_
        refine lv_imul hx hb dX16_keep_488 ?_
        exact J489 (3 * v119) y105 hf H locs hP hS ls (lv_sub hl [0, 1] rfl)
      · have hf := ifT c118 hf
        refine lv_iconst hx hb dX16_keep_475 ic_1 ?_
        refine lv_goto (tgt := 489) hx hb dX16_keep_476 (by decide) ?_
        exact J489 1 y105 hf H locs hP hS ls (lv_sub hl [0, 1] rfl)
  obtain ⟨ex460, hlp460, hf⟩ := bdP hf
  refine LP460 (0, 1, (σ.2.2.1 624)) ex460 hlp460 H locs hP hS ls (lv_sub hl [1, 0] rfl) ?_
  intro z120 a121 hex460 H locs hP hS ls hl
  subst ex460
  dsimp only at hf
  refine lv_iconst hx hb dX16_keep_514 ic_0 ?_
  refine lv_istore_n (lv' := [(1, .int 0), (0, .ref (ad 500))]) hx hb dX16_keep_515 rfl hl (by decide) rfl (fun ls hl => ?_)
  refine lv_iconst hx hb dX16_keep_516 ic_0 ?_
  refine lv_istore_n (lv' := [(2, .int 0), (1, .int 0), (0, .ref (ad 500))]) hx hb dX16_keep_517 rfl hl (by decide) rfl (fun ls hl => ?_)
  have LP518 : ∀ (st518 : Int32 × Int32 × (Nat → Int32)) (ex518 : ((Nat → Int32))), loop (mo_keep_L518 a7 z120 a121) st518 = some ex518 → ∀ (H : Heap) (locs : List Loc), PM D G ad (sgM_keep σ v104 z120 (σ.1 541) (σ.1 543) (σ.1 554) a7 a14 a24 a25 a32 a39 a46 a53 a101 a91 a121 (st518.2.2) (σ.2.2.1 632) (σ.2.2.1 640) (σ.2.2.2.1 626) (σ.2.2.2.1 627) (σ.2.2.2.1 628)) H → va_S A s.heap H locs → ∀ (ls : Array Slot), lv_has ls 4 [(0, .ref (ad 500)), (1, .int (st518.1)), (2, .int (st518.2.1))] → (∀ (a143 : Nat → Int32), ex518 = a143 → ∀ (H : Heap) (locs : List Loc), PM D G ad (sgM_keep σ v104 z120 (σ.1 541) (σ.1 543) (σ.1 554) a7 a14 a24 a25 a32 a39 a46 a53 a101 a91 a121 a143 (σ.2.2.1 632) (σ.2.2.1 640) (σ.2.2.2.1 626) (σ.2.2.2.1 627) (σ.2.2.2.1 628)) H → va_S A s.heap H locs → ∀ (ls : Array Slot), lv_has ls 4 [(0, .ref (ad 500))] → W p l e rmM_keep s m args below meth c0 H locs 0 0 Q (F0 m 570 ls [])) → W p l e rmM_keep s m args below meth c0 H locs 0 0 Q (F0 m 518 ls []) := by
    refine loop_P (fun st518 ex518 o518 hf ih518 hx518 => ?_)
    obtain ⟨y122, y123, a124⟩ := st518
    intro H locs (hP : PM D G ad (sgM_keep σ v104 z120 (σ.1 541) (σ.1 543) (σ.1 554) a7 a14 a24 a25 a32 a39 a46 a53 a101 a91 a121 a124 (σ.2.2.1 632) (σ.2.2.1 640) (σ.2.2.2.1 626) (σ.2.2.2.1 627) (σ.2.2.2.1 628)) H) hS ls (hl : lv_has ls 4 [(0, .ref (ad 500)), (1, .int y122), (2, .int y123)]) KE518_0
    dsimp only [mo_keep_L518] at hf
    refine lv_iload_n hx hb dX16_keep_518 rfl (lv_at hl 2 rfl) ?_
    refine lv_aload_n hx hb dX16_keep_519 rfl (lv_at hl 0 rfl) ?_
    obtain ⟨v125, u126, hf⟩ := bdP hf
    refine cM_doubts E hK hP hS hA sgM_keep_raI611 u126 ⟨Nat.le_of_ble_eq_true rfl, Nat.le_of_ble_eq_true rfl⟩ ⟨Nat.zero_le _, Nat.zero_le _⟩ hl.1 (Nat.le_of_ble_eq_true rfl) dX16_keep_520 (fun H locs hP hS => ?_)
    refine lv_icmp_gt (tgt := 570) hx hb dX16_keep_523 (by decide) (fun c127 => ?_) (fun c127 => ?_)
    · have hf := ifT c127 hf
      exact KE518_0 _ (hx518 _ (Option.some.inj hf).symm).symm H locs hP hS ls (lv_sub hl [0] rfl)
    · have hf := ifF c127 hf
      refine lv_iconst hx hb dX16_keep_526 ic_0 ?_
      refine lv_istore_n (lv' := [(3, .int 0), (0, .ref (ad 500)), (1, .int y122), (2, .int y123)]) hx hb dX16_keep_527 rfl hl (by decide) rfl (fun ls hl => ?_)
      have LP528 : ∀ (st528 : Int32 × Int32 × (Nat → Int32)) (ex528 : (Int32 × (Nat → Int32))), loop (mo_keep_L528 a7 z120 a121 y123) st528 = some ex528 → ∀ (H : Heap) (locs : List Loc), PM D G ad (sgM_keep σ v104 z120 (σ.1 541) (σ.1 543) (σ.1 554) a7 a14 a24 a25 a32 a39 a46 a53 a101 a91 a121 (st528.2.2) (σ.2.2.1 632) (σ.2.2.1 640) (σ.2.2.2.1 626) (σ.2.2.2.1 627) (σ.2.2.2.1 628)) H → va_S A s.heap H locs → ∀ (ls : Array Slot), lv_has ls 4 [(0, .ref (ad 500)), (1, .int (st528.1)), (2, .int y123), (3, .int (st528.2.1))] → (∀ (y140 : Int32) (a141 : Nat → Int32), ex528 = (y140, a141) → ∀ (H : Heap) (locs : List Loc), PM D G ad (sgM_keep σ v104 z120 (σ.1 541) (σ.1 543) (σ.1 554) a7 a14 a24 a25 a32 a39 a46 a53 a101 a91 a121 a141 (σ.2.2.1 632) (σ.2.2.1 640) (σ.2.2.2.1 626) (σ.2.2.2.1 627) (σ.2.2.2.1 628)) H → va_S A s.heap H locs → ∀ (ls : Array Slot), lv_has ls 4 [(0, .ref (ad 500)), (1, .int y140), (2, .int y123)] → W p l e rmM_keep s m args below meth c0 H locs 0 0 Q (F0 m 564 ls [])) → W p l e rmM_keep s m args below meth c0 H locs 0 0 Q (F0 m 528 ls []) := by
        refine loop_P (fun st528 ex528 o528 hf ih528 hx528 => ?_)
        obtain ⟨y128, y129, a130⟩ := st528
        intro H locs (hP : PM D G ad (sgM_keep σ v104 z120 (σ.1 541) (σ.1 543) (σ.1 554) a7 a14 a24 a25 a32 a39 a46 a53 a101 a91 a121 a130 (σ.2.2.1 632) (σ.2.2.1 640) (σ.2.2.2.1 626) (σ.2.2.2.1 627) (σ.2.2.2.1 628)) H) hS ls (hl : lv_has ls 4 [(0, .ref (ad 500)), (1, .int y128), (2, .int y123), (3, .int y129)]) KE528_0
        dsimp only [mo_keep_L528] at hf
        refine lv_iload_n hx hb dX16_keep_528 rfl (lv_at hl 3 rfl) ?_
        refine lv_aload_n hx hb dX16_keep_529 rfl (lv_at hl 0 rfl) ?_
        refine gM_23 (v := z120) E hK hP sgM_keep_rzI523 dX16_keep_530 ?_
        refine lv_icmp_ge (tgt := 564) hx hb dX16_keep_533 (by decide) (fun c131 => ?_) (fun c131 => ?_)
        · have hf := ifT c131 hf
          exact KE528_0 _ _ (hx528 _ (Option.some.inj hf).symm).symm H locs hP hS ls (lv_sub hl [0, 1, 2] rfl)
        · have hf := ifF c131 hf
          refine lv_aload_n hx hb dX16_keep_536 rfl (lv_at hl 0 rfl) ?_
          refine lv_iload_n hx hb dX16_keep_537 rfl (lv_at hl 3 rfl) ?_
          obtain ⟨v132, u133, hf⟩ := bdP hf
          refine cM_openIn E hK hP hS hA sgM_keep_raI611 sgM_keep_raI624 u133 ⟨Nat.le_of_ble_eq_true rfl, Nat.le_of_ble_eq_true rfl⟩ ⟨Nat.zero_le _, Nat.zero_le _⟩ hl.1 (Nat.le_of_ble_eq_true rfl) dX16_keep_538 (fun H locs hP hS => ?_)
          refine lv_iload_n hx hb dX16_keep_541 rfl (lv_at hl 2 rfl) ?_
          have J558 : ∀ (y134 : Int32) (a135 : Nat → Int32), mo_keep_J558 y129 y134 a135 = some o528 → ∀ (H : Heap) (locs : List Loc), PM D G ad (sgM_keep σ v104 z120 (σ.1 541) (σ.1 543) (σ.1 554) a7 a14 a24 a25 a32 a39 a46 a53 a101 a91 a121 a135 (σ.2.2.1 632) (σ.2.2.1 640) (σ.2.2.2.1 626) (σ.2.2.2.1 627) (σ.2.2.2.1 628)) H → va_S A s.heap H locs → ∀ (ls : Array Slot), lv_has ls 4 [(0, .ref (ad 500)), (1, .int y134), (2, .int y123), (3, .int y129)] → W p l e rmM_keep s m args below meth c0 H locs 0 0 Q (F0 m 558 ls []) := by
            intro y134 a135 hf H locs hP hS ls hl
            unfold mo_keep_J558 at hf
            obtain ⟨v136, hv136, hf⟩ := bdP hf
            refine lv_iinc (v := v136) (lv' := [(3, .int v136), (0, .ref (ad 500)), (1, .int y134), (2, .int y123)]) hx hb dX16_keep_558 hl (k := 3) rfl (Option.some.inj hv136) (by decide) rfl (fun ls hl => ?_)
            refine lv_goto (tgt := 528) hx hb dX16_keep_561 (by decide) ?_
            exact ih528 _ (Option.some.inj hf).symm H locs hP hS ls (lv_sub hl [1, 2, 3, 0] rfl) KE528_0
          refine lv_icmp_eq (tgt := 548) hx hb dX16_keep_542 (by decide) (fun c137 => ?_) (fun c137 => ?_)
          · have hf := ifT c137 hf
            refine lv_aload_n hx hb dX16_keep_548 rfl (lv_at hl 0 rfl) ?_
            refine gM_25 E hK hP dX16_keep_549 ?_
            refine lv_iload_n hx hb dX16_keep_552 rfl (lv_at hl 1 rfl) ?_
            refine lv_iload_n hx hb dX16_keep_553 rfl (lv_at hl 3 rfl) ?_
            obtain ⟨a138, ha138, hf⟩ := bdP hf
            refine p_iast hx hb hK hP hS (hA _ (PA_c dM_625)) dM_625 sgM_keep_raI625 ha138 sgM_keep_aI625 dX16_keep_554 (fun H locs hP hS => ?_)
            obtain ⟨v139, hv139, hf⟩ := bdP hf
            refine lv_iinc (v := v139) (lv' := [(1, .int v139), (0, .ref (ad 500)), (2, .int y123), (3, .int y129)]) hx hb dX16_keep_555 hl (k := 1) rfl (Option.some.inj hv139) (by decide) rfl (fun ls hl => ?_)
            exact J558 v139 a138 hf H locs hP hS ls (lv_sub hl [1, 0, 2, 3] rfl)
          · have hf := ifF c137 hf
            refine lv_goto (tgt := 558) hx hb dX16_keep_545 (by decide) ?_
            exact J558 y128 a130 hf H locs hP hS ls (lv_sub hl [0, 1, 2, 3] rfl)
      obtain ⟨ex528, hlp528, hf⟩ := bdP hf
      refine LP528 (y122, 0, a124) ex528 hlp528 H locs hP hS ls (lv_sub hl [1, 2, 3, 0] rfl) ?_
      intro y140 a141 hex528 H locs hP hS ls hl
      subst ex528
      dsimp only at hf
      obtain ⟨v142, hv142, hf⟩ := bdP hf
      refine lv_iinc (v := v142) (lv' := [(2, .int v142), (0, .ref (ad 500)), (1, .int y140)]) hx hb dX16_keep_564 hl (k := 2) rfl (Option.some.inj hv142) (by decide) rfl (fun ls hl => ?_)
      refine lv_goto (tgt := 518) hx hb dX16_keep_567 (by decide) ?_
      exact ih518 _ (Option.some.inj hf).symm H locs hP hS ls (lv_sub hl [1, 2, 0] rfl) KE518_0
  obtain ⟨ex518, hlp518, hf⟩ := bdP hf
  refine LP518 (0, 0, (σ.2.2.1 625)) ex518 hlp518 H locs hP hS ls (lv_sub hl [2, 1, 0] rfl) ?_
  intro a143 hex518 H locs hP hS ls hl
  subst ex518
  refine lv_aload_n hx hb dX16_keep_570 rfl (lv_at hl 0 rfl) ?_
  refine lv_iconst hx hb dX16_keep_571 ic_0 ?_
  refine uM_43 E hK hP hS (hA _ (PA_c dM_500)) sgM_keep_zI543 dX16_keep_572 (fun H locs hP hS => ?_)
  refine lv_aload_n hx hb dX16_keep_575 rfl (lv_at hl 0 rfl) ?_
  refine lv_iconst hx hb dX16_keep_576 ic_0 ?_
  refine uM_41 E hK hP hS (hA _ (PA_c dM_500)) sgM_keep_zI541 dX16_keep_577 (fun H locs hP hS => ?_)
  refine lv_aload_n hx hb dX16_keep_580 rfl (lv_at hl 0 rfl) ?_
  refine lv_iconst hx hb dX16_keep_581 ic_0 ?_
  refine uM_54 E hK hP hS (hA _ (PA_c dM_500)) rfl rfl sgM_keep_zI554 dX16_keep_582 (fun H locs hP hS => ?_)
  refine lv_iconst hx hb dX16_keep_585 ic_0 ?_
  refine lv_istore_n (lv' := [(2, .int 0), (0, .ref (ad 500))]) hx hb dX16_keep_586 rfl hl (by decide) rfl (fun ls hl => ?_)
  have LP587 : ∀ (st587 : Int32 × (Nat → Int32)) (ex587 : ((Nat → Int32))), loop (mo_keep_L587) st587 = some ex587 → ∀ (H : Heap) (locs : List Loc), PM D G ad (sgM_keep σ v104 z120 0 0 0 a7 a14 a24 a25 a32 a39 a46 a53 a101 a91 a121 a143 (st587.2) (σ.2.2.1 640) (σ.2.2.2.1 626) (σ.2.2.2.1 627) (σ.2.2.2.1 628)) H → va_S A s.heap H locs → ∀ (ls : Array Slot), lv_has ls 4 [(0, .ref (ad 500)), (2, .int (st587.1))] → (∀ (a149 : Nat → Int32), ex587 = a149 → ∀ (H : Heap) (locs : List Loc), PM D G ad (sgM_keep σ v104 z120 0 0 0 a7 a14 a24 a25 a32 a39 a46 a53 a101 a91 a121 a143 a149 (σ.2.2.1 640) (σ.2.2.2.1 626) (σ.2.2.2.1 627) (σ.2.2.2.1 628)) H → va_S A s.heap H locs → ∀ (ls : Array Slot), lv_has ls 4 [(0, .ref (ad 500))] → W p l e rmM_keep s m args below meth c0 H locs 0 0 Q (F0 m 605 ls [])) → W p l e rmM_keep s m args below meth c0 H locs 0 0 Q (F0 m 587 ls []) := by
    refine loop_P (fun st587 ex587 o587 hf ih587 hx587 => ?_)
    obtain ⟨y144, a145⟩ := st587
    intro H locs (hP : PM D G ad (sgM_keep σ v104 z120 0 0 0 a7 a14 a24 a25 a32 a39 a46 a53 a101 a91 a121 a143 a145 (σ.2.2.1 640) (σ.2.2.2.1 626) (σ.2.2.2.1 627) (σ.2.2.2.1 628)) H) hS ls (hl : lv_has ls 4 [(0, .ref (ad 500)), (2, .int y144)]) KE587_0
    dsimp only [mo_keep_L587] at hf
    refine lv_iload_n hx hb dX16_keep_587 rfl (lv_at hl 1 rfl) ?_
    refine lv_iconst hx hb dX16_keep_588 ic_3 ?_
    refine lv_icmp_ge (tgt := 605) hx hb dX16_keep_589 (by decide) (fun c146 => ?_) (fun c146 => ?_)
    · have hf := ifT c146 hf
      exact KE587_0 _ (hx587 _ (Option.some.inj hf).symm).symm H locs hP hS ls (lv_sub hl [0] rfl)
    · have hf := ifF c146 hf
      refine lv_aload_n hx hb dX16_keep_592 rfl (lv_at hl 0 rfl) ?_
      refine gM_32 E hK hP dX16_keep_593 ?_
      refine lv_iload_n hx hb dX16_keep_596 rfl (lv_at hl 1 rfl) ?_
      refine lv_iconst hx hb dX16_keep_597 ic_0 ?_
      obtain ⟨a147, ha147, hf⟩ := bdP hf
      refine p_zast hx hb hK hP hS (hA _ (PA_c dM_632)) dM_632 sgM_keep_raI632 ha147 sgM_keep_aI632 dX16_keep_598 (fun H locs hP hS => ?_)
      obtain ⟨v148, hv148, hf⟩ := bdP hf
      refine lv_iinc (v := v148) (lv' := [(2, .int v148), (0, .ref (ad 500))]) hx hb dX16_keep_599 hl (k := 1) rfl (Option.some.inj hv148) (by decide) rfl (fun ls hl => ?_)
      refine lv_goto (tgt := 587) hx hb dX16_keep_602 (by decide) ?_
      exact ih587 _ (Option.some.inj hf).symm H locs hP hS ls (lv_sub hl [1, 0] rfl) KE587_0
  obtain ⟨ex587, hlp587, hf⟩ := bdP hf
  refine LP587 (0, (σ.2.2.1 632)) ex587 hlp587 H locs hP hS ls (lv_sub hl [1, 0] rfl) ?_
  intro a149 hex587 H locs hP hS ls hl
  subst ex587
  refine lv_iconst hx hb dX16_keep_605 ic_0 ?_
  refine lv_istore_n (lv' := [(2, .int 0), (0, .ref (ad 500))]) hx hb dX16_keep_606 rfl hl (by decide) rfl (fun ls hl => ?_)
  have LP607 : ∀ (st607 : Int32 × (Nat → Int32)) (ex607 : ((Nat → Int32))), loop (mo_keep_L607) st607 = some ex607 → ∀ (H : Heap) (locs : List Loc), PM D G ad (sgM_keep σ v104 z120 0 0 0 a7 a14 a24 a25 a32 a39 a46 a53 a101 a91 a121 a143 a149 (st607.2) (σ.2.2.2.1 626) (σ.2.2.2.1 627) (σ.2.2.2.1 628)) H → va_S A s.heap H locs → ∀ (ls : Array Slot), lv_has ls 4 [(0, .ref (ad 500)), (2, .int (st607.1))] → (∀ (a155 : Nat → Int32), ex607 = a155 → ∀ (H : Heap) (locs : List Loc), PM D G ad (sgM_keep σ v104 z120 0 0 0 a7 a14 a24 a25 a32 a39 a46 a53 a101 a91 a121 a143 a149 a155 (σ.2.2.2.1 626) (σ.2.2.2.1 627) (σ.2.2.2.1 628)) H → va_S A s.heap H locs → ∀ (ls : Array Slot), lv_has ls 4 [(0, .ref (ad 500))] → W p l e rmM_keep s m args below meth c0 H locs 0 0 Q (F0 m 626 ls [])) → W p l e rmM_keep s m args below meth c0 H locs 0 0 Q (F0 m 607 ls []) := by
    refine loop_P (fun st607 ex607 o607 hf ih607 hx607 => ?_)
    obtain ⟨y150, a151⟩ := st607
    intro H locs (hP : PM D G ad (sgM_keep σ v104 z120 0 0 0 a7 a14 a24 a25 a32 a39 a46 a53 a101 a91 a121 a143 a149 a151 (σ.2.2.2.1 626) (σ.2.2.2.1 627) (σ.2.2.2.1 628)) H) hS ls (hl : lv_has ls 4 [(0, .ref (ad 500)), (2, .int y150)]) KE607_0
    dsimp only [mo_keep_L607] at hf
    refine lv_iload_n hx hb dX16_keep_607 rfl (lv_at hl 1 rfl) ?_
    refine lv_ldc hx hb hown (hts _ q1637) dX16_keep_608 ?_
    refine lv_icmp_ge (tgt := 626) hx hb dX16_keep_610 (by decide) (fun c152 => ?_) (fun c152 => ?_)
    · have hf := ifT c152 hf
      exact KE607_0 _ (hx607 _ (Option.some.inj hf).symm).symm H locs hP hS ls (lv_sub hl [0] rfl)
    · have hf := ifF c152 hf
      refine lv_aload_n hx hb dX16_keep_613 rfl (lv_at hl 0 rfl) ?_
      refine gM_40 E hK hP dX16_keep_614 ?_
      refine lv_iload_n hx hb dX16_keep_617 rfl (lv_at hl 1 rfl) ?_
      refine lv_iconst hx hb dX16_keep_618 ic_0 ?_
      obtain ⟨a153, ha153, hf⟩ := bdP hf
      refine p_iast hx hb hK hP hS (hA _ (PA_c dM_640)) dM_640 sgM_keep_raI640 ha153 sgM_keep_aI640 dX16_keep_619 (fun H locs hP hS => ?_)
      obtain ⟨v154, hv154, hf⟩ := bdP hf
      refine lv_iinc (v := v154) (lv' := [(2, .int v154), (0, .ref (ad 500))]) hx hb dX16_keep_620 hl (k := 1) rfl (Option.some.inj hv154) (by decide) rfl (fun ls hl => ?_)
      refine lv_goto (tgt := 607) hx hb dX16_keep_623 (by decide) ?_
      exact ih607 _ (Option.some.inj hf).symm H locs hP hS ls (lv_sub hl [1, 0] rfl) KE607_0
  obtain ⟨ex607, hlp607, hf⟩ := bdP hf
  refine LP607 (0, (σ.2.2.1 640)) ex607 hlp607 H locs hP hS ls (lv_sub hl [1, 0] rfl) ?_
  intro a155 hex607 H locs hP hS ls hl
  subst ex607
  refine lv_aload_n hx hb dX16_keep_626 rfl (lv_at hl 0 rfl) ?_
  obtain ⟨⟨a156, a157, a158⟩, u159, hf⟩ := bdP hf
  dsimp only at hf
  refine cM_layWeights E hK hP hS hA sgM_keep_rzI522 sgM_keep_rzI523 sgM_keep_raI611 sgM_keep_raI614 sgM_keep_raI615 sgM_keep_raI616 sgM_keep_raI624 sgM_keep_raI625 sgM_keep_raL626 sgM_keep_raL627 sgM_keep_raL628 u159 ⟨Nat.le_of_ble_eq_true rfl, Nat.le_of_ble_eq_true rfl⟩ ⟨Nat.zero_le _, Nat.zero_le _⟩ hl.1 (Nat.le_of_ble_eq_true rfl) dX16_keep_627 (fun H locs hP hS => ?_)
  rw [sgM_keep_aL626, sgM_keep_aL627, sgM_keep_aL628] at hP
  cases hf
  rw [hQ]; exact p_vret hx hb hr hlk hK hP hS dX16_keep_630
theorem kM_keep (l : Launch) (D : va_G) (G : Nat → ClassId) (ad : Nat → Nat) (σ : Sto) {w_zI522 : Int32} {w_zI523 : Int32} {w_zI541 : Int32} {w_zI543 : Int32} {w_zI554 : Int32} {w_aI611 : Nat → Int32} {w_aI612 : Nat → Int32} {w_aI613 : Nat → Int32} {w_aI614 : Nat → Int32} {w_aI615 : Nat → Int32} {w_aI616 : Nat → Int32} {w_aI617 : Nat → Int32} {w_aI618 : Nat → Int32} {w_aI620 : Nat → Int32} {w_aI621 : Nat → Int32} {w_aI624 : Nat → Int32} {w_aI625 : Nat → Int32} {w_aI632 : Nat → Int32} {w_aI640 : Nat → Int32} {w_aL626 : Nat → Int64} {w_aL627 : Nat → Int64} {w_aL628 : Nat → Int64} (hf : mo_keep (σ.1 522) (σ.1 523) (σ.1 541) (σ.1 543) (σ.1 554) (σ.2.2.1 611) (σ.2.2.1 612) (σ.2.2.1 613) (σ.2.2.1 614) (σ.2.2.1 615) (σ.2.2.1 616) (σ.2.2.1 617) (σ.2.2.1 618) (σ.2.2.1 620) (σ.2.2.1 621) (σ.2.2.1 624) (σ.2.2.1 625) (σ.2.2.1 632) (σ.2.2.1 640) (σ.2.2.2.1 626) (σ.2.2.2.1 627) (σ.2.2.2.1 628) = some (w_zI522, w_zI523, w_zI541, w_zI543, w_zI554, w_aI611, w_aI612, w_aI613, w_aI614, w_aI615, w_aI616, w_aI617, w_aI618, w_aI620, w_aI621, w_aI624, w_aI625, w_aI632, w_aI640, w_aL626, w_aL627, w_aL628)) : CtV l D clsA G dscM ad yX16_keep (ws_ yX16_keep cX16_keep 4 (Option.none : Option Jvm.ClassFile.FieldType)) rmM_keep [.ref (ad 500)] σ (sgM_keep σ w_zI522 w_zI523 w_zI541 w_zI543 w_zI554 w_aI611 w_aI612 w_aI613 w_aI614 w_aI615 w_aI616 w_aI617 w_aI618 w_aI620 w_aI621 w_aI624 w_aI625 w_aI632 w_aI640 w_aL626 w_aL627 w_aL628) :=
  p_ctV (by decide +kernel) (Nat.le_of_ble_eq_true rfl) (fun p e s m below meth c0 ls A E hP hK hA hS hl => wkM_keep E hK hA hf rfl hP hS hl)
theorem cM_keep (E : EN p s m args meth c0 RX16 cc nL ret) (hK : KK D clsA G s) (hP : PM D G ad σ H) (hS : va_S A s.heap H locs) (hA : ∀ q, PA dscM ad s.heap.size q → A q) {w_zI522 : Int32} {w_zI523 : Int32} {w_zI541 : Int32} {w_zI543 : Int32} {w_zI554 : Int32} {w_aI611 : Nat → Int32} {w_aI612 : Nat → Int32} {w_aI613 : Nat → Int32} {w_aI614 : Nat → Int32} {w_aI615 : Nat → Int32} {w_aI616 : Nat → Int32} {w_aI617 : Nat → Int32} {w_aI618 : Nat → Int32} {w_aI620 : Nat → Int32} {w_aI621 : Nat → Int32} {w_aI624 : Nat → Int32} {w_aI625 : Nat → Int32} {w_aI632 : Nat → Int32} {w_aI640 : Nat → Int32} {w_aL626 : Nat → Int64} {w_aL627 : Nat → Int64} {w_aL628 : Nat → Int64} {z_worlds : Int32} (e_zI522 : σ.1 522 = z_worlds) {z_knowings : Int32} (e_zI523 : σ.1 523 = z_knowings) {z_rowSize : Int32} (e_zI541 : σ.1 541 = z_rowSize) {z_rules : Int32} (e_zI543 : σ.1 543 = z_rules) {z_walks : Int32} (e_zI554 : σ.1 554 = z_walks) {a_many : Nat → Int32} (e_aI611 : σ.2.2.1 611 = a_many) {a_placeName : Nat → Int32} (e_aI612 : σ.2.2.1 612 = a_placeName) {a_causeName : Nat → Int32} (e_aI613 : σ.2.2.1 613 = a_causeName) {a_causeOf10 : Nat → Int32} (e_aI614 : σ.2.2.1 614 = a_causeOf10) {a_road : Nat → Int32} (e_aI615 : σ.2.2.1 615 = a_road) {a_doubtful : Nat → Int32} (e_aI616 : σ.2.2.1 616 = a_doubtful) {a_sight : Nat → Int32} (e_aI617 : σ.2.2.1 617 = a_sight) {a_word : Nat → Int32} (e_aI618 : σ.2.2.1 618 = a_word) {a_seen : Nat → Int32} (e_aI620 : σ.2.2.1 620 = a_seen) {a_between : Nat → Int32} (e_aI621 : σ.2.2.1 621 = a_between) {a_three : Nat → Int32} (e_aI624 : σ.2.2.1 624 = a_three) {a_turn : Nat → Int32} (e_aI625 : σ.2.2.1 625 = a_turn) {a_isLaid : Nat → Int32} (e_aI632 : σ.2.2.1 632 = a_isLaid) {a_hop : Nat → Int32} (e_aI640 : σ.2.2.1 640 = a_hop) {a_weight : Nat → Int64} (e_aL626 : σ.2.2.2.1 626 = a_weight) {a_use : Nat → Int64} (e_aL627 : σ.2.2.2.1 627 = a_use) {a_likely : Nat → Int64} (e_aL628 : σ.2.2.2.1 628 = a_likely) (hu : mo_keep z_worlds z_knowings z_rowSize z_rules z_walks a_many a_placeName a_causeName a_causeOf10 a_road a_doubtful a_sight a_word a_seen a_between a_three a_turn a_isLaid a_hop a_weight a_use a_likely = some (w_zI522, w_zI523, w_zI541, w_zI543, w_zI554, w_aI611, w_aI612, w_aI613, w_aI614, w_aI615, w_aI616, w_aI617, w_aI618, w_aI620, w_aI621, w_aI624, w_aI625, w_aI632, w_aI640, w_aL626, w_aL627, w_aL628)) (hR : rmM_keep.frames + 1 ≤ R.frames ∧ 8 + (4 + 11) + rmM_keep.locals ≤ R.locals) (hcs : cells ≤ R.cells ∧ slots ≤ R.slots) (hsz : ls.size = nL) (hW : (rest.map fun v => v.category).sum ≤ 8) (hdg : decode cc pc = .ok (.invokevirtual 135, 3)) (kk : ∀ (H1 : Heap) (locs1 : List Loc), PM D G ad (aL (aL (aL (aI (aI (aI (aI (aI (aI (aI (aI (aI (aI (aI (aI (aI (aI (zI (zI (zI (zI (zI σ 522 w_zI522) 523 w_zI523) 541 w_zI541) 543 w_zI543) 554 w_zI554) 611 w_aI611) 612 w_aI612) 613 w_aI613) 614 w_aI614) 615 w_aI615) 616 w_aI616) 617 w_aI617) 618 w_aI618) 620 w_aI620) 621 w_aI621) 624 w_aI624) 625 w_aI625) 632 w_aI632) 640 w_aI640) 626 w_aL626) 627 w_aL627) 628 w_aL628) H1 → va_S A s.heap H1 locs1 → W p l e R s m args below meth c0 H1 locs1 cells slots Q (F0 m (pc + 3) ls rest)) : W p l e R s m args below meth c0 H locs cells slots Q (F0 m pc ls (.ref (ad 500) :: rest)) := by
  subst e_zI522
  subst e_zI523
  subst e_zI541
  subst e_zI543
  subst e_zI554
  subst e_aI611
  subst e_aI612
  subst e_aI613
  subst e_aI614
  subst e_aI615
  subst e_aI616
  subst e_aI617
  subst e_aI618
  subst e_aI620
  subst e_aI621
  subst e_aI624
  subst e_aI625
  subst e_aI632
  subst e_aI640
  subst e_aL626
  subst e_aL627
  subst e_aL628
  exact p_callV (As := []) (rest := rest) E.1 hK hP hS hA (kM_keep l D G ad σ hu) (cwV 0 E.1.2.2.2.2 (lw_V q1643 q1645 qs45 q142 q1646) rfl rfl rfl (by decide +kernel) hR) dM_500 rfl rfl rfl hsz rfl hW hdg hcs kk
/-! thrown()I -/
abbrev rmM_thrown : Room := { frames := 0, cells := 0, slots := 0, locals := 0 }
set_option maxHeartbeats 4000000 in
theorem wkM_thrown  {r_ : Int32} (E : EN p s m args meth c0 RX16 cX16_thrown 1 (Option.some Jvm.ClassFile.FieldType.int)) (hK : KK D clsA G s) (hA : ∀ q, PA dscM ad s.heap.size q → A q) (hf : mo_thrown (σ.1 502) = some r_) (hQ : Q = MQ below (va_Qi (fun x (_ : Unit) => x = r_) (fun _ t => PM D G ad σ t.heap ∧ KK D clsA G t) A) args s 0 0 A) (hP : PM D G ad σ H) (hS : va_S A s.heap H locs) (hl : lv_has ls 1 [(0, .ref (ad 500))]) : W p l e rmM_thrown s m args below meth c0 H locs 0 0 Q (F0 m 0 ls []) := by
  obtain ⟨⟨hx, hb, hml, hown, hts⟩, hr, hlk⟩ := id E
  unfold mo_thrown at hf
  refine lv_aload_n hx hb dX16_thrown_0 rfl (lv_at hl 0 rfl) ?_
  refine gM_2 (v := (σ.1 502)) E hK hP rfl dX16_thrown_1 ?_
  cases hf
  rw [hQ]; exact p_iret hx hb hr hlk hK hP hS dX16_thrown_4
theorem kM_thrown (l : Launch) (D : va_G) (G : Nat → ClassId) (ad : Nat → Nat) (σ : Sto) {r_ : Int32} (hf : mo_thrown (σ.1 502) = some r_) : CtI l D clsA G dscM ad yX16_thrown (ws_ yX16_thrown cX16_thrown 1 (Option.some Jvm.ClassFile.FieldType.int)) rmM_thrown [.ref (ad 500)] σ r_ σ :=
  p_ctI (by decide +kernel) (Nat.le_of_ble_eq_true rfl) (fun p e s m below meth c0 ls A E hP hK hA hS hl => wkM_thrown E hK hA hf rfl hP hS hl)
/-! feed(IIIII)I -/
def sgM_feed (σ : Sto) (w0 : Int32) (w1 : Int32) (w2 : Nat → Int32) : Sto := aI (zI (zI σ 501 w0) 502 w1) 600 w2
theorem sgM_feed_self (σ : Sto) : sgM_feed σ (σ.1 501) (σ.1 502) (σ.2.2.1 600) = σ := by
  unfold sgM_feed
  simp only [zI_self, zL_self, aI_self, aL_self]
theorem sgM_feed_zI501 {σ : Sto} {w0 : Int32} {w1 : Int32} {w2 : Nat → Int32} {g : Int32} : zI (sgM_feed σ w0 w1 w2) 501 g = sgM_feed σ g w1 w2 := (cm_zI_aI _ _ _ _ _).trans (congrArg (fun z => aI z 600 w2) ((zI_comm _ (by decide) _ _).trans (congrArg (fun z => zI z 502 w1) (zI_zI _ 501 _ _))))
theorem sgM_feed_zI502 {σ : Sto} {w0 : Int32} {w1 : Int32} {w2 : Nat → Int32} {g : Int32} : zI (sgM_feed σ w0 w1 w2) 502 g = sgM_feed σ w0 g w2 := (cm_zI_aI _ _ _ _ _).trans (congrArg (fun z => aI z 600 w2) (zI_zI _ 502 _ _))
theorem sgM_feed_aI600 {σ : Sto} {w0 : Int32} {w1 : Int32} {w2 : Nat → Int32} {g : Nat → Int32} : aI (sgM_feed σ w0 w1 w2) 600 g = sgM_feed σ w0 w1 g := aI_aI _ 600 _ _
theorem sgM_feed_rzI501 {σ : Sto} {w0 : Int32} {w1 : Int32} {w2 : Nat → Int32} : (sgM_feed σ w0 w1 w2).1 501 = w0 := rfl
theorem sgM_feed_rzI502 {σ : Sto} {w0 : Int32} {w1 : Int32} {w2 : Nat → Int32} : (sgM_feed σ w0 w1 w2).1 502 = w1 := rfl
theorem sgM_feed_raI600 {σ : Sto} {w0 : Int32} {w1 : Int32} {w2 : Nat → Int32} : (sgM_feed σ w0 w1 w2).2.2.1 600 = w2 := rfl
abbrev rmM_feed : Room := { frames := 0, cells := 0, slots := 0, locals := 0 }
set_option maxHeartbeats 4000000 in
theorem wkM_feed {x1 : Int32} {x2 : Int32} {x3 : Int32} {x4 : Int32} {x5 : Int32} {r_ : Int32} {w_zI501 : Int32} {w_zI502 : Int32} {w_aI600 : Nat → Int32} (E : EN p s m args meth c0 RX16 cX16_feed 8 (Option.some Jvm.ClassFile.FieldType.int)) (hK : KK D clsA G s) (hA : ∀ q, PA dscM ad s.heap.size q → A q) (hf : mo_feed (σ.1 501) (σ.1 502) (σ.2.2.1 600) x1 x2 x3 x4 x5 = some (r_, w_zI501, w_zI502, w_aI600)) (hQ : Q = MQ below (va_Qi (fun x (_ : Unit) => x = r_) (fun _ t => PM D G ad (sgM_feed σ w_zI501 w_zI502 w_aI600) t.heap ∧ KK D clsA G t) A) args s 0 0 A) (hP : PM D G ad σ H) (hS : va_S A s.heap H locs) (hl : lv_has ls 8 [(0, .ref (ad 500)), (1, .int x1), (2, .int x2), (3, .int x3), (4, .int x4), (5, .int x5)]) : W p l e rmM_feed s m args below meth c0 H locs 0 0 Q (F0 m 0 ls []) := by
  obtain ⟨⟨hx, hb, hml, hown, hts⟩, hr, hlk⟩ := id E
  have hP := hP.to (sgM_feed_self σ).symm
  unfold mo_feed at hf
  refine lv_aload_n hx hb dX16_feed_0 rfl (lv_at hl 0 rfl) ?_
  refine lv_iconst hx hb dX16_feed_1 ic_0 ?_
  refine uM_2 E hK hP hS (hA _ (PA_c dM_500)) sgM_feed_zI502 dX16_feed_2 (fun H locs hP hS => ?_)
  refine lv_aload_n hx hb dX16_feed_5 rfl (lv_at hl 0 rfl) ?_
  refine gM_1 (v := (σ.1 501)) E hK hP sgM_feed_rzI501 dX16_feed_6 ?_
  refine lv_bipush hx hb dX16_feed_9 bp_20 ?_
  refine lv_iadd hx hb dX16_feed_11 ?_
  refine lv_sipush hx hb dX16_feed_12 sp_600 ?_
  refine lv_icmp_le (tgt := 20) hx hb dX16_feed_15 (by decide) (fun c1 => ?_) (fun c1 => ?_)
  · have hf := ifT c1 hf
    refine lv_iconst hx hb dX16_feed_20 ic_0 ?_
    refine lv_istore (lv' := [(6, .int 0), (0, .ref (ad 500)), (1, .int x1), (2, .int x2), (3, .int x3), (4, .int x4), (5, .int x5)]) hx hb dX16_feed_21 hl (by decide) rfl (fun ls hl => ?_)
    have LP23 : ∀ (st23 : Int32 × (Nat → Int32)) (ex23 : ((Nat → Int32))), loop (mo_feed_L23 (σ.1 501) x1 x2 x3 x4 x5) st23 = some ex23 → ∀ (H : Heap) (locs : List Loc), PM D G ad (sgM_feed σ (σ.1 501) 0 (st23.2)) H → va_S A s.heap H locs → ∀ (ls : Array Slot), lv_has ls 8 [(0, .ref (ad 500)), (1, .int x1), (2, .int x2), (3, .int x3), (4, .int x4), (5, .int x5), (6, .int (st23.1))] → (∀ (a13 : Nat → Int32), ex23 = a13 → ∀ (H : Heap) (locs : List Loc), PM D G ad (sgM_feed σ (σ.1 501) 0 a13) H → va_S A s.heap H locs → ∀ (ls : Array Slot), lv_has ls 8 [(0, .ref (ad 500))] → W p l e rmM_feed s m args below meth c0 H locs 0 0 Q (F0 m 113 ls [])) → W p l e rmM_feed s m args below meth c0 H locs 0 0 Q (F0 m 23 ls []) := by
      refine loop_P (fun st23 ex23 o23 hf ih23 hx23 => ?_)
      obtain ⟨y2, a3⟩ := st23
      intro H locs (hP : PM D G ad (sgM_feed σ (σ.1 501) 0 a3) H) hS ls (hl : lv_has ls 8 [(0, .ref (ad 500)), (1, .int x1), (2, .int x2), (3, .int x3), (4, .int x4), (5, .int x5), (6, .int y2)]) KE23_0
      dsimp only [mo_feed_L23] at hf
      refine lv_iload hx hb dX16_feed_23 (lv_at hl 6 rfl) ?_
      refine lv_bipush hx hb dX16_feed_25 bp_20 ?_
      refine lv_icmp_ge (tgt := 113) hx hb dX16_feed_27 (by decide) (fun c4 => ?_) (fun c4 => ?_)
      · have hf := ifT c4 hf
        exact KE23_0 _ (hx23 _ (Option.some.inj hf).symm).symm H locs hP hS ls (lv_sub hl [0] rfl)
      · have hf := ifF c4 hf
        refine lv_iload hx hb dX16_feed_30 (lv_at hl 6 rfl) ?_
        refine lv_iconst hx hb dX16_feed_32 ic_4 ?_
        have J76 : ∀ (k5 : Int32), mo_feed_J76 (σ.1 501) y2 a3 k5 = some o23 → ∀ (H : Heap) (locs : List Loc), PM D G ad (sgM_feed σ (σ.1 501) 0 a3) H → va_S A s.heap H locs → ∀ (ls : Array Slot), lv_has ls 8 [(0, .ref (ad 500)), (1, .int x1), (2, .int x2), (3, .int x3), (4, .int x4), (5, .int x5), (6, .int y2)] → W p l e rmM_feed s m args below meth c0 H locs 0 0 Q (F0 m 76 ls [.int k5]) := by
          intro k5 hf H locs hP hS ls hl
          unfold mo_feed_J76 at hf
          refine lv_istore (lv' := [(7, .int k5), (0, .ref (ad 500)), (1, .int x1), (2, .int x2), (3, .int x3), (4, .int x4), (5, .int x5), (6, .int y2)]) hx hb dX16_feed_76 hl (by decide) rfl (fun ls hl => ?_)
          refine lv_aload_n hx hb dX16_feed_78 rfl (lv_at hl 1 rfl) ?_
          refine gM_0 E hK hP dX16_feed_79 ?_
          refine lv_aload_n hx hb dX16_feed_82 rfl (lv_at hl 1 rfl) ?_
          refine gM_1 (v := (σ.1 501)) E hK hP sgM_feed_rzI501 dX16_feed_83 ?_
          refine lv_iload hx hb dX16_feed_86 (lv_at hl 7 rfl) ?_
          refine lv_iadd hx hb dX16_feed_88 ?_
          refine lv_iload hx hb dX16_feed_89 (lv_at hl 0 rfl) ?_
          refine lv_bipush hx hb dX16_feed_91 bp_24 ?_
          refine lv_bipush hx hb dX16_feed_93 bp_8 ?_
          refine lv_iload hx hb dX16_feed_95 (lv_at hl 7 rfl) ?_
          refine lv_iconst hx hb dX16_feed_97 ic_4 ?_
          obtain ⟨v6, hv6, hf⟩ := bdP hf
          refine lv_irem hx hb dX16_feed_98 (rmI_some hv6).1 ?_
          refine nm_i (rmI_some hv6).2 ?_
          refine lv_imul hx hb dX16_feed_99 ?_
          refine lv_isub hx hb dX16_feed_100 ?_
          refine lv_ishr hx hb dX16_feed_101 ?_
          refine lv_sipush hx hb dX16_feed_102 sp_255 ?_
          refine lv_iand hx hb dX16_feed_105 ?_
          obtain ⟨a7, ha7, hf⟩ := bdP hf
          refine p_iast hx hb hK hP hS (hA _ (PA_c dM_600)) dM_600 sgM_feed_raI600 ha7 sgM_feed_aI600 dX16_feed_106 (fun H locs hP hS => ?_)
          obtain ⟨v8, hv8, hf⟩ := bdP hf
          refine lv_iinc (v := v8) (lv' := [(6, .int v8), (7, .int k5), (0, .ref (ad 500)), (1, .int x1), (2, .int x2), (3, .int x3), (4, .int x4), (5, .int x5)]) hx hb dX16_feed_107 hl (k := 7) rfl (Option.some.inj hv8) (by decide) rfl (fun ls hl => ?_)
          refine lv_goto (tgt := 23) hx hb dX16_feed_110 (by decide) ?_
          exact ih23 _ (Option.some.inj hf).symm H locs hP hS ls (lv_sub hl [2, 3, 4, 5, 6, 7, 0] rfl) KE23_0
        refine lv_icmp_ge (tgt := 40) hx hb dX16_feed_33 (by decide) (fun c9 => ?_) (fun c9 => ?_)
        · have hf := ifT c9 hf
          refine lv_iload hx hb dX16_feed_40 (lv_at hl 6 rfl) ?_
          refine lv_bipush hx hb dX16_feed_42 bp_8 ?_
          refine lv_icmp_ge (tgt := 51) hx hb dX16_feed_44 (by decide) (fun c10 => ?_) (fun c10 => ?_)
          · have hf := ifT c10 hf
            refine lv_iload hx hb dX16_feed_51 (lv_at hl 6 rfl) ?_
            refine lv_bipush hx hb dX16_feed_53 bp_12 ?_
            refine lv_icmp_ge (tgt := 62) hx hb dX16_feed_55 (by decide) (fun c11 => ?_) (fun c11 => ?_)
            · have hf := ifT c11 hf
              refine lv_iload hx hb dX16_feed_62 (lv_at hl 6 rfl) ?_
              refine lv_bipush hx hb dX16_feed_64 bp_16 ?_
              refine lv_icmp_ge (tgt := 74) hx hb dX16_feed_66 (by decide) (fun c12 => ?_) (fun c12 => ?_)
              · have hf := ifT c12 hf
                refine lv_iload hx hb dX16_feed_74 (lv_at hl 5 rfl) ?_
                exact J76 x5 hf H locs hP hS ls (lv_sub hl [0, 1, 2, 3, 4, 5, 6] rfl)
              · have hf := ifF c12 hf
                refine lv_iload hx hb dX16_feed_69 (lv_at hl 4 rfl) ?_
                refine lv_goto (tgt := 76) hx hb dX16_feed_71 (by decide) ?_
                exact J76 x4 hf H locs hP hS ls (lv_sub hl [0, 1, 2, 3, 4, 5, 6] rfl)
            · have hf := ifF c11 hf
              refine lv_iload_n hx hb dX16_feed_58 rfl (lv_at hl 3 rfl) ?_
              refine lv_goto (tgt := 76) hx hb dX16_feed_59 (by decide) ?_
              exact J76 x3 hf H locs hP hS ls (lv_sub hl [0, 1, 2, 3, 4, 5, 6] rfl)
          · have hf := ifF c10 hf
            refine lv_iload_n hx hb dX16_feed_47 rfl (lv_at hl 2 rfl) ?_
            refine lv_goto (tgt := 76) hx hb dX16_feed_48 (by decide) ?_
            exact J76 x2 hf H locs hP hS ls (lv_sub hl [0, 1, 2, 3, 4, 5, 6] rfl)
        · have hf := ifF c9 hf
          refine lv_iload_n hx hb dX16_feed_36 rfl (lv_at hl 1 rfl) ?_
          refine lv_goto (tgt := 76) hx hb dX16_feed_37 (by decide) ?_
          exact J76 x1 hf H locs hP hS ls (lv_sub hl [0, 1, 2, 3, 4, 5, 6] rfl)
    obtain ⟨ex23, hlp23, hf⟩ := bdP hf
    refine LP23 (0, (σ.2.2.1 600)) ex23 hlp23 H locs hP hS ls (lv_sub hl [1, 2, 3, 4, 5, 6, 0] rfl) ?_
    intro a13 hex23 H locs hP hS ls hl
    subst ex23
    refine lv_aload_n hx hb dX16_feed_113 rfl (lv_at hl 0 rfl) ?_
    refine lv_dup hx hb dX16_feed_114 rfl ?_
    refine gM_1 (v := (σ.1 501)) E hK hP sgM_feed_rzI501 dX16_feed_115 ?_
    refine lv_bipush hx hb dX16_feed_118 bp_20 ?_
    refine lv_iadd hx hb dX16_feed_120 ?_
    obtain ⟨v14, hv14, hf⟩ := bdP hf
    refine nm_i (Option.some.inj hv14) ?_
    refine uM_1 E hK hP hS (hA _ (PA_c dM_500)) sgM_feed_zI501 dX16_feed_121 (fun H locs hP hS => ?_)
    refine lv_aload_n hx hb dX16_feed_124 rfl (lv_at hl 0 rfl) ?_
    refine gM_1 (v := v14) E hK hP sgM_feed_rzI501 dX16_feed_125 ?_
    cases hf
    rw [hQ]; exact p_iret hx hb hr hlk hK hP hS dX16_feed_128
  · have hf := ifF c1 hf
    refine lv_iconst hx hb dX16_feed_18 ic_m1 ?_
    cases hf
    rw [hQ]; exact p_iret hx hb hr hlk hK hP hS dX16_feed_19
theorem kM_feed (l : Launch) (D : va_G) (G : Nat → ClassId) (ad : Nat → Nat) (σ : Sto) {x1 : Int32} {x2 : Int32} {x3 : Int32} {x4 : Int32} {x5 : Int32} {r_ : Int32} {w_zI501 : Int32} {w_zI502 : Int32} {w_aI600 : Nat → Int32} (hf : mo_feed (σ.1 501) (σ.1 502) (σ.2.2.1 600) x1 x2 x3 x4 x5 = some (r_, w_zI501, w_zI502, w_aI600)) : CtI l D clsA G dscM ad yX16_feed (ws_ yX16_feed cX16_feed 8 (Option.some Jvm.ClassFile.FieldType.int)) rmM_feed [.ref (ad 500), .int x1, .int x2, .int x3, .int x4, .int x5] σ r_ (sgM_feed σ w_zI501 w_zI502 w_aI600) :=
  p_ctI (by decide +kernel) (Nat.le_of_ble_eq_true rfl) (fun p e s m below meth c0 ls A E hP hK hA hS hl => wkM_feed E hK hA hf rfl hP hS hl)
/-! causeBy(I)I -/
abbrev rmM_causeBy : Room := { frames := 0, cells := 0, slots := 0, locals := 0 }
set_option maxHeartbeats 4000000 in
theorem wkM_causeBy {x1 : Int32} {r_ : Int32} (E : EN p s m args meth c0 RX16 cX16_causeBy 3 (Option.some Jvm.ClassFile.FieldType.int)) (hK : KK D clsA G s) (hA : ∀ q, PA dscM ad s.heap.size q → A q) (hf : mo_causeBy (σ.2.2.1 611) (σ.2.2.1 613) x1 = some r_) (hQ : Q = MQ below (va_Qi (fun x (_ : Unit) => x = r_) (fun _ t => PM D G ad σ t.heap ∧ KK D clsA G t) A) args s 0 0 A) (hP : PM D G ad σ H) (hS : va_S A s.heap H locs) (hl : lv_has ls 3 [(0, .ref (ad 500)), (1, .int x1)]) : W p l e rmM_causeBy s m args below meth c0 H locs 0 0 Q (F0 m 0 ls []) := by
  obtain ⟨⟨hx, hb, hml, hown, hts⟩, hr, hlk⟩ := id E
  unfold mo_causeBy at hf
  refine lv_iconst hx hb dX16_causeBy_0 ic_0 ?_
  refine lv_istore_n (lv' := [(2, .int 0), (0, .ref (ad 500)), (1, .int x1)]) hx hb dX16_causeBy_1 rfl hl (by decide) rfl (fun ls hl => ?_)
  have LP2 : ∀ (st2 : Int32) (ex2 : (Int32) ⊕ (Unit)), loop (mo_causeBy_L2 (σ.2.2.1 611) (σ.2.2.1 613) x1) st2 = some ex2 → ∀ (H : Heap) (locs : List Loc), PM D G ad σ H → va_S A s.heap H locs → ∀ (ls : Array Slot), lv_has ls 3 [(0, .ref (ad 500)), (1, .int x1), (2, .int st2)] → (∀ (y7 : Int32), ex2 = (.inl y7) → ∀ (H : Heap) (locs : List Loc), PM D G ad σ H → va_S A s.heap H locs → ∀ (ls : Array Slot), lv_has ls 3 [(2, .int y7)] → W p l e rmM_causeBy s m args below meth c0 H locs 0 0 Q (F0 m 25 ls [])) → (ex2 = (.inr ()) → ∀ (H : Heap) (locs : List Loc), PM D G ad σ H → va_S A s.heap H locs → ∀ (ls : Array Slot), lv_has ls 3 [] → W p l e rmM_causeBy s m args below meth c0 H locs 0 0 Q (F0 m 33 ls [])) → W p l e rmM_causeBy s m args below meth c0 H locs 0 0 Q (F0 m 2 ls []) := by
    refine loop_P (fun st2 ex2 o2 hf ih2 hx2 => ?_)
    obtain ⟨y1, rfl⟩ : ∃ z, z = st2 := ⟨_, rfl⟩
    intro H locs (hP : PM D G ad σ H) hS ls (hl : lv_has ls 3 [(0, .ref (ad 500)), (1, .int x1), (2, .int y1)]) KE2_0 KE2_1
    dsimp only [mo_causeBy_L2] at hf
    refine lv_iload_n hx hb dX16_causeBy_2 rfl (lv_at hl 2 rfl) ?_
    refine lv_aload_n hx hb dX16_causeBy_3 rfl (lv_at hl 0 rfl) ?_
    refine gM_11 E hK hP dX16_causeBy_4 ?_
    refine lv_bipush hx hb dX16_causeBy_7 bp_9 ?_
    obtain ⟨v2, hv2, hf⟩ := bdP hf
    refine p_iald hx hb hK hP dM_611 rfl hv2 dX16_causeBy_9 ?_
    refine lv_icmp_ge (tgt := 33) hx hb dX16_causeBy_10 (by decide) (fun c3 => ?_) (fun c3 => ?_)
    · have hf := ifT c3 hf
      exact KE2_1  (hx2 _ (Option.some.inj hf).symm).symm H locs hP hS ls (lv_sub hl [] rfl)
    · have hf := ifF c3 hf
      refine lv_aload_n hx hb dX16_causeBy_13 rfl (lv_at hl 0 rfl) ?_
      refine gM_13 E hK hP dX16_causeBy_14 ?_
      refine lv_iconst hx hb dX16_causeBy_17 ic_2 ?_
      refine lv_iload_n hx hb dX16_causeBy_18 rfl (lv_at hl 2 rfl) ?_
      refine lv_iadd hx hb dX16_causeBy_19 ?_
      obtain ⟨v4, hv4, hf⟩ := bdP hf
      refine p_iald hx hb hK hP dM_613 rfl hv4 dX16_causeBy_20 ?_
      refine lv_iload_n hx hb dX16_causeBy_21 rfl (lv_at hl 1 rfl) ?_
      refine lv_icmp_ne (tgt := 27) hx hb dX16_causeBy_22 (by decide) (fun c5 => ?_) (fun c5 => ?_)
      · have hf := ifF c5 hf
        obtain ⟨v6, hv6, hf⟩ := bdP hf
        refine lv_iinc (v := v6) (lv' := [(2, .int v6), (0, .ref (ad 500)), (1, .int x1)]) hx hb dX16_causeBy_27 hl (k := 2) rfl (Option.some.inj hv6) (by decide) rfl (fun ls hl => ?_)
        refine lv_goto (tgt := 2) hx hb dX16_causeBy_30 (by decide) ?_
        exact ih2 _ (Option.some.inj hf).symm H locs hP hS ls (lv_sub hl [1, 2, 0] rfl) KE2_0 KE2_1
      · have hf := ifT c5 hf
        exact KE2_0 _ (hx2 _ (Option.some.inj hf).symm).symm H locs hP hS ls (lv_sub hl [2] rfl)
  obtain ⟨ex2, hlp2, hf⟩ := bdP hf
  refine LP2 0 ex2 hlp2 H locs hP hS ls (lv_sub hl [1, 2, 0] rfl) ?_ ?_
  · intro y7 hex2 H locs hP hS ls hl
    subst ex2
    dsimp only [sE_l, sE_r] at hf
    refine lv_iload_n hx hb dX16_causeBy_25 rfl (lv_at hl 0 rfl) ?_
    cases hf
    rw [hQ]; exact p_iret hx hb hr hlk hK hP hS dX16_causeBy_26
  · intro  hex2 H locs hP hS ls hl
    subst ex2
    dsimp only [sE_l, sE_r] at hf
    refine lv_iconst hx hb dX16_causeBy_33 ic_m1 ?_
    cases hf
    rw [hQ]; exact p_iret hx hb hr hlk hK hP hS dX16_causeBy_34
theorem kM_causeBy (l : Launch) (D : va_G) (G : Nat → ClassId) (ad : Nat → Nat) (σ : Sto) {x1 : Int32} {r_ : Int32} (hf : mo_causeBy (σ.2.2.1 611) (σ.2.2.1 613) x1 = some r_) : CtI l D clsA G dscM ad yX16_causeBy (ws_ yX16_causeBy cX16_causeBy 3 (Option.some Jvm.ClassFile.FieldType.int)) rmM_causeBy [.ref (ad 500), .int x1] σ r_ σ :=
  p_ctI (by decide +kernel) (Nat.le_of_ble_eq_true rfl) (fun p e s m below meth c0 ls A E hP hK hA hS hl => wkM_causeBy E hK hA hf rfl hP hS hl)
theorem cM_causeBy (E : EN p s m args meth c0 RX16 cc nL ret) (hK : KK D clsA G s) (hP : PM D G ad σ H) (hS : va_S A s.heap H locs) (hA : ∀ q, PA dscM ad s.heap.size q → A q) {x1 : Int32} {r_ : Int32} {a_many : Nat → Int32} (e_aI611 : σ.2.2.1 611 = a_many) {a_causeName : Nat → Int32} (e_aI613 : σ.2.2.1 613 = a_causeName) (hu : mo_causeBy a_many a_causeName x1 = some r_) (hR : rmM_causeBy.frames + 1 ≤ R.frames ∧ 8 + (3 + 11) + rmM_causeBy.locals ≤ R.locals) (hcs : cells ≤ R.cells ∧ slots ≤ R.slots) (hsz : ls.size = nL) (hW : (rest.map fun v => v.category).sum ≤ 8) (hdg : decode cc pc = .ok (.invokevirtual 189, 3)) (kk : ∀ (H1 : Heap) (locs1 : List Loc), PM D G ad σ H1 → va_S A s.heap H1 locs1 → W p l e R s m args below meth c0 H1 locs1 cells slots Q (F0 m (pc + 3) ls (.int r_ :: rest))) : W p l e R s m args below meth c0 H locs cells slots Q (F0 m pc ls (.int x1 :: .ref (ad 500) :: rest)) := by
  subst e_aI611
  subst e_aI613
  exact p_callI (As := [.int x1]) (rest := rest) E.1 hK hP hS hA (kM_causeBy l D G ad σ hu) (cwV 1 E.1.2.2.2.2 (lw_V q1914 q1916 qs64 q142 q1917) rfl rfl rfl (by decide +kernel) hR) dM_500 rfl rfl rfl hsz rfl hW hdg hcs kk
/-! wrong(I)Z -/
def sgM_wrong (σ : Sto) (w0 : Int32) (w1 : Int32) : Sto := zI (zI σ 504 w0) 505 w1
theorem sgM_wrong_self (σ : Sto) : sgM_wrong σ (σ.1 504) (σ.1 505) = σ := by
  unfold sgM_wrong
  simp only [zI_self, zL_self, aI_self, aL_self]
theorem sgM_wrong_zI504 {σ : Sto} {w0 : Int32} {w1 : Int32} {g : Int32} : zI (sgM_wrong σ w0 w1) 504 g = sgM_wrong σ g w1 := (zI_comm _ (by decide) _ _).trans (congrArg (fun z => zI z 505 w1) (zI_zI _ 504 _ _))
theorem sgM_wrong_zI505 {σ : Sto} {w0 : Int32} {w1 : Int32} {g : Int32} : zI (sgM_wrong σ w0 w1) 505 g = sgM_wrong σ w0 g := zI_zI _ 505 _ _
theorem sgM_wrong_rzI504 {σ : Sto} {w0 : Int32} {w1 : Int32} : (sgM_wrong σ w0 w1).1 504 = w0 := rfl
theorem sgM_wrong_rzI505 {σ : Sto} {w0 : Int32} {w1 : Int32} : (sgM_wrong σ w0 w1).1 505 = w1 := rfl
theorem sgM_wrong_rzI510 {σ : Sto} {w0 : Int32} {w1 : Int32} : (sgM_wrong σ w0 w1).1 510 = σ.1 510 := rfl
abbrev rmM_wrong : Room := { frames := 0, cells := 0, slots := 0, locals := 0 }
set_option maxHeartbeats 4000000 in
theorem wkM_wrong {x1 : Int32} {r_ : Int32} {w_zI504 : Int32} {w_zI505 : Int32} (E : EN p s m args meth c0 RX16 cX16_wrong 2 (Option.some Jvm.ClassFile.FieldType.boolean)) (hK : KK D clsA G s) (hA : ∀ q, PA dscM ad s.heap.size q → A q) (hf : mo_wrong (σ.1 504) (σ.1 505) (σ.1 510) x1 = some (r_, w_zI504, w_zI505)) (hQ : Q = MQ below (va_Qi (fun x (_ : Unit) => x = r_) (fun _ t => PM D G ad (sgM_wrong σ w_zI504 w_zI505) t.heap ∧ KK D clsA G t) A) args s 0 0 A) (hP : PM D G ad σ H) (hS : va_S A s.heap H locs) (hl : lv_has ls 2 [(0, .ref (ad 500)), (1, .int x1)]) : W p l e rmM_wrong s m args below meth c0 H locs 0 0 Q (F0 m 0 ls []) := by
  obtain ⟨⟨hx, hb, hml, hown, hts⟩, hr, hlk⟩ := id E
  have hP := hP.to (sgM_wrong_self σ).symm
  unfold mo_wrong at hf
  refine lv_aload_n hx hb dX16_wrong_0 rfl (lv_at hl 0 rfl) ?_
  refine lv_iload_n hx hb dX16_wrong_1 rfl (lv_at hl 1 rfl) ?_
  refine uM_4 E hK hP hS (hA _ (PA_c dM_500)) sgM_wrong_zI504 dX16_wrong_2 (fun H locs hP hS => ?_)
  refine lv_aload_n hx hb dX16_wrong_5 rfl (lv_at hl 0 rfl) ?_
  refine lv_aload_n hx hb dX16_wrong_6 rfl (lv_at hl 0 rfl) ?_
  refine gM_10 (v := (σ.1 510)) E hK hP sgM_wrong_rzI510 dX16_wrong_7 ?_
  refine uM_5 E hK hP hS (hA _ (PA_c dM_500)) sgM_wrong_zI505 dX16_wrong_10 (fun H locs hP hS => ?_)
  refine lv_iconst hx hb dX16_wrong_13 ic_0 ?_
  cases hf
  rw [hQ]; exact p_zret hx hb hr hlk hK hP hS rfl dX16_wrong_14
theorem kM_wrong (l : Launch) (D : va_G) (G : Nat → ClassId) (ad : Nat → Nat) (σ : Sto) {x1 : Int32} {r_ : Int32} {w_zI504 : Int32} {w_zI505 : Int32} (hf : mo_wrong (σ.1 504) (σ.1 505) (σ.1 510) x1 = some (r_, w_zI504, w_zI505)) : CtI l D clsA G dscM ad yX16_wrong (ws_ yX16_wrong cX16_wrong 2 (Option.some Jvm.ClassFile.FieldType.boolean)) rmM_wrong [.ref (ad 500), .int x1] σ r_ (sgM_wrong σ w_zI504 w_zI505) :=
  p_ctI (by decide +kernel) (Nat.le_of_ble_eq_true rfl) (fun p e s m below meth c0 ls A E hP hK hA hS hl => wkM_wrong E hK hA hf rfl hP hS hl)
theorem cM_wrong (E : EN p s m args meth c0 RX16 cc nL ret) (hK : KK D clsA G s) (hP : PM D G ad σ H) (hS : va_S A s.heap H locs) (hA : ∀ q, PA dscM ad s.heap.size q → A q) {x1 : Int32} {r_ : Int32} {w_zI504 : Int32} {w_zI505 : Int32} {z_fault : Int32} (e_zI504 : σ.1 504 = z_fault) {z_faultPlace : Int32} (e_zI505 : σ.1 505 = z_faultPlace) {z_at : Int32} (e_zI510 : σ.1 510 = z_at) (hu : mo_wrong z_fault z_faultPlace z_at x1 = some (r_, w_zI504, w_zI505)) (hR : rmM_wrong.frames + 1 ≤ R.frames ∧ 8 + (2 + 11) + rmM_wrong.locals ≤ R.locals) (hcs : cells ≤ R.cells ∧ slots ≤ R.slots) (hsz : ls.size = nL) (hW : (rest.map fun v => v.category).sum ≤ 8) (hdg : decode cc pc = .ok (.invokevirtual 176, 3)) (kk : ∀ (H1 : Heap) (locs1 : List Loc), PM D G ad (zI (zI σ 504 w_zI504) 505 w_zI505) H1 → va_S A s.heap H1 locs1 → W p l e R s m args below meth c0 H1 locs1 cells slots Q (F0 m (pc + 3) ls (.int r_ :: rest))) : W p l e R s m args below meth c0 H locs cells slots Q (F0 m pc ls (.int x1 :: .ref (ad 500) :: rest)) := by
  subst e_zI504
  subst e_zI505
  subst e_zI510
  exact p_callI (As := [.int x1]) (rest := rest) E.1 hK hP hS hA (kM_wrong l D G ad σ hu) (cwV 1 E.1.2.2.2.2 (lw_V q1898 q1900 qs60 q142 q1901) rfl rfl rfl (by decide +kernel) hR) dM_500 rfl rfl rfl hsz rfl hW hdg hcs kk
/-! numberRead(II)Z -/
def sgM_numberRead (σ : Sto) (w0 : Int32) (w1 : Int32) : Sto := zI (zI σ 504 w0) 505 w1
theorem sgM_numberRead_self (σ : Sto) : sgM_numberRead σ (σ.1 504) (σ.1 505) = σ := by
  unfold sgM_numberRead
  simp only [zI_self, zL_self, aI_self, aL_self]
theorem sgM_numberRead_zI504 {σ : Sto} {w0 : Int32} {w1 : Int32} {g : Int32} : zI (sgM_numberRead σ w0 w1) 504 g = sgM_numberRead σ g w1 := (zI_comm _ (by decide) _ _).trans (congrArg (fun z => zI z 505 w1) (zI_zI _ 504 _ _))
theorem sgM_numberRead_zI505 {σ : Sto} {w0 : Int32} {w1 : Int32} {g : Int32} : zI (sgM_numberRead σ w0 w1) 505 g = sgM_numberRead σ w0 g := zI_zI _ 505 _ _
theorem sgM_numberRead_rzI504 {σ : Sto} {w0 : Int32} {w1 : Int32} : (sgM_numberRead σ w0 w1).1 504 = w0 := rfl
theorem sgM_numberRead_rzI505 {σ : Sto} {w0 : Int32} {w1 : Int32} : (sgM_numberRead σ w0 w1).1 505 = w1 := rfl
theorem sgM_numberRead_rzI508 {σ : Sto} {w0 : Int32} {w1 : Int32} : (sgM_numberRead σ w0 w1).1 508 = σ.1 508 := rfl
theorem sgM_numberRead_rzI509 {σ : Sto} {w0 : Int32} {w1 : Int32} : (sgM_numberRead σ w0 w1).1 509 = σ.1 509 := rfl
theorem sgM_numberRead_rzI510 {σ : Sto} {w0 : Int32} {w1 : Int32} : (sgM_numberRead σ w0 w1).1 510 = σ.1 510 := rfl
abbrev rmM_numberRead : Room := { frames := 1, cells := 0, slots := 0, locals := 21 }
set_option maxHeartbeats 4000000 in
theorem wkM_numberRead {x1 : Int32} {x2 : Int32} {r_ : Int32} {w_zI504 : Int32} {w_zI505 : Int32} (E : EN p s m args meth c0 RX16 cX16_numberRead 3 (Option.some Jvm.ClassFile.FieldType.boolean)) (hK : KK D clsA G s) (hA : ∀ q, PA dscM ad s.heap.size q → A q) (hf : mo_numberRead (σ.1 504) (σ.1 505) (σ.1 508) (σ.1 509) (σ.1 510) x1 x2 = some (r_, w_zI504, w_zI505)) (hQ : Q = MQ below (va_Qi (fun x (_ : Unit) => x = r_) (fun _ t => PM D G ad (sgM_numberRead σ w_zI504 w_zI505) t.heap ∧ KK D clsA G t) A) args s 0 0 A) (hP : PM D G ad σ H) (hS : va_S A s.heap H locs) (hl : lv_has ls 3 [(0, .ref (ad 500)), (1, .int x1), (2, .int x2)]) : W p l e rmM_numberRead s m args below meth c0 H locs 0 0 Q (F0 m 0 ls []) := by
  obtain ⟨⟨hx, hb, hml, hown, hts⟩, hr, hlk⟩ := id E
  have hP := hP.to (sgM_numberRead_self σ).symm
  unfold mo_numberRead at hf
  refine lv_aload_n hx hb dX16_numberRead_0 rfl (lv_at hl 0 rfl) ?_
  refine gM_8 (v := (σ.1 508)) E hK hP sgM_numberRead_rzI508 dX16_numberRead_1 ?_
  refine lv_iconst hx hb dX16_numberRead_4 ic_3 ?_
  refine lv_icmp_eq (tgt := 14) hx hb dX16_numberRead_5 (by decide) (fun c1 => ?_) (fun c1 => ?_)
  · have hf := ifT c1 hf
    refine lv_aload_n hx hb dX16_numberRead_14 rfl (lv_at hl 0 rfl) ?_
    refine gM_9 (v := (σ.1 509)) E hK hP sgM_numberRead_rzI509 dX16_numberRead_15 ?_
    refine lv_iload_n hx hb dX16_numberRead_18 rfl (lv_at hl 1 rfl) ?_
    have J38 : ∀ (z2 : Int32) (z3 : Int32), mo_numberRead_J38 z2 z3 = some (r_, w_zI504, w_zI505) → ∀ (H : Heap) (locs : List Loc), PM D G ad (sgM_numberRead σ z2 z3) H → va_S A s.heap H locs → ∀ (ls : Array Slot), lv_has ls 3 [] → W p l e rmM_numberRead s m args below meth c0 H locs 0 0 Q (F0 m 38 ls []) := by
      intro z2 z3 hf H locs hP hS ls hl
      unfold mo_numberRead_J38 at hf
      refine lv_iconst hx hb dX16_numberRead_38 ic_1 ?_
      refine lv_goto (tgt := 43) hx hb dX16_numberRead_39 (by decide) ?_
      cases hf
      rw [hQ]; exact p_zret hx hb hr hlk hK hP hS rfl dX16_numberRead_43
    have J30 : mo_numberRead_J30 (σ.1 504) (σ.1 505) (σ.1 510) = some (r_, w_zI504, w_zI505) → ∀ (H : Heap) (locs : List Loc), PM D G ad (sgM_numberRead σ (σ.1 504) (σ.1 505)) H → va_S A s.heap H locs → ∀ (ls : Array Slot), lv_has ls 3 [(0, .ref (ad 500))] → W p l e rmM_numberRead s m args below meth c0 H locs 0 0 Q (F0 m 30 ls []) := by
      intro  hf H locs hP hS ls hl
      unfold mo_numberRead_J30 at hf
      refine lv_aload_n hx hb dX16_numberRead_30 rfl (lv_at hl 0 rfl) ?_
      refine lv_iconst hx hb dX16_numberRead_31 ic_2 ?_
      obtain ⟨⟨v4, z5, z6⟩, u7, hf⟩ := bdP hf
      dsimp only at hf
      refine cM_wrong E hK hP hS hA sgM_numberRead_rzI504 sgM_numberRead_rzI505 sgM_numberRead_rzI510 u7 ⟨Nat.le_of_ble_eq_true rfl, Nat.le_of_ble_eq_true rfl⟩ ⟨Nat.zero_le _, Nat.zero_le _⟩ hl.1 (Nat.le_of_ble_eq_true rfl) dX16_numberRead_32 (fun H locs hP hS => ?_)
      rw [sgM_numberRead_zI504, sgM_numberRead_zI505] at hP
      refine lv_if_eq (tgt := 42) hx hb dX16_numberRead_35 (by decide) (fun c8 => ?_) (fun c8 => ?_)
      · have hf := ifT c8 hf
        refine lv_iconst hx hb dX16_numberRead_42 ic_0 ?_
        cases hf
        rw [hQ]; exact p_zret hx hb hr hlk hK hP hS rfl dX16_numberRead_43
      · have hf := ifF c8 hf
        exact J38 z5 z6 hf H locs hP hS ls (lv_sub hl [] rfl)
    refine lv_icmp_lt (tgt := 30) hx hb dX16_numberRead_19 (by decide) (fun c9 => ?_) (fun c9 => ?_)
    · have hf := ifT c9 hf
      exact J30  hf H locs hP hS ls (lv_sub hl [0] rfl)
    · have hf := ifF c9 hf
      refine lv_aload_n hx hb dX16_numberRead_22 rfl (lv_at hl 0 rfl) ?_
      refine gM_9 (v := (σ.1 509)) E hK hP sgM_numberRead_rzI509 dX16_numberRead_23 ?_
      refine lv_iload_n hx hb dX16_numberRead_26 rfl (lv_at hl 2 rfl) ?_
      refine lv_icmp_le (tgt := 38) hx hb dX16_numberRead_27 (by decide) (fun c10 => ?_) (fun c10 => ?_)
      · have hf := ifT c10 hf
        exact J38 (σ.1 504) (σ.1 505) hf H locs hP hS ls (lv_sub hl [] rfl)
      · have hf := ifF c10 hf
        exact J30  hf H locs hP hS ls (lv_sub hl [0] rfl)
  · have hf := ifF c1 hf
    refine lv_aload_n hx hb dX16_numberRead_8 rfl (lv_at hl 0 rfl) ?_
    refine lv_iconst hx hb dX16_numberRead_9 ic_1 ?_
    obtain ⟨⟨v11, z12, z13⟩, u14, hf⟩ := bdP hf
    dsimp only at hf
    refine cM_wrong E hK hP hS hA sgM_numberRead_rzI504 sgM_numberRead_rzI505 sgM_numberRead_rzI510 u14 ⟨Nat.le_of_ble_eq_true rfl, Nat.le_of_ble_eq_true rfl⟩ ⟨Nat.zero_le _, Nat.zero_le _⟩ hl.1 (Nat.le_of_ble_eq_true rfl) dX16_numberRead_10 (fun H locs hP hS => ?_)
    rw [sgM_numberRead_zI504, sgM_numberRead_zI505] at hP
    obtain ⟨v15, hv15, hf⟩ := bdP hf
    obtain ⟨hv15a, hv15b⟩ := retZ_some hv15
    subst hv15a
    cases hf
    rw [hQ]; exact p_zret hx hb hr hlk hK hP hS hv15b dX16_numberRead_13
theorem kM_numberRead (l : Launch) (D : va_G) (G : Nat → ClassId) (ad : Nat → Nat) (σ : Sto) {x1 : Int32} {x2 : Int32} {r_ : Int32} {w_zI504 : Int32} {w_zI505 : Int32} (hf : mo_numberRead (σ.1 504) (σ.1 505) (σ.1 508) (σ.1 509) (σ.1 510) x1 x2 = some (r_, w_zI504, w_zI505)) : CtI l D clsA G dscM ad yX16_numberRead (ws_ yX16_numberRead cX16_numberRead 3 (Option.some Jvm.ClassFile.FieldType.boolean)) rmM_numberRead [.ref (ad 500), .int x1, .int x2] σ r_ (sgM_numberRead σ w_zI504 w_zI505) :=
  p_ctI (by decide +kernel) (Nat.le_of_ble_eq_true rfl) (fun p e s m below meth c0 ls A E hP hK hA hS hl => wkM_numberRead E hK hA hf rfl hP hS hl)
theorem cM_numberRead (E : EN p s m args meth c0 RX16 cc nL ret) (hK : KK D clsA G s) (hP : PM D G ad σ H) (hS : va_S A s.heap H locs) (hA : ∀ q, PA dscM ad s.heap.size q → A q) {x1 : Int32} {x2 : Int32} {r_ : Int32} {w_zI504 : Int32} {w_zI505 : Int32} {z_fault : Int32} (e_zI504 : σ.1 504 = z_fault) {z_faultPlace : Int32} (e_zI505 : σ.1 505 = z_faultPlace) {z_kind : Int32} (e_zI508 : σ.1 508 = z_kind) {z_which : Int32} (e_zI509 : σ.1 509 = z_which) {z_at : Int32} (e_zI510 : σ.1 510 = z_at) (hu : mo_numberRead z_fault z_faultPlace z_kind z_which z_at x1 x2 = some (r_, w_zI504, w_zI505)) (hR : rmM_numberRead.frames + 1 ≤ R.frames ∧ 8 + (3 + 11) + rmM_numberRead.locals ≤ R.locals) (hcs : cells ≤ R.cells ∧ slots ≤ R.slots) (hsz : ls.size = nL) (hW : (rest.map fun v => v.category).sum ≤ 8) (hdg : decode cc pc = .ok (.invokevirtual 192, 3)) (kk : ∀ (H1 : Heap) (locs1 : List Loc), PM D G ad (zI (zI σ 504 w_zI504) 505 w_zI505) H1 → va_S A s.heap H1 locs1 → W p l e R s m args below meth c0 H1 locs1 cells slots Q (F0 m (pc + 3) ls (.int r_ :: rest))) : W p l e R s m args below meth c0 H locs cells slots Q (F0 m pc ls (.int x2 :: .int x1 :: .ref (ad 500) :: rest)) := by
  subst e_zI504
  subst e_zI505
  subst e_zI508
  subst e_zI509
  subst e_zI510
  exact p_callI (As := [.int x1, .int x2]) (rest := rest) E.1 hK hP hS hA (kM_numberRead l D G ad σ hu) (cwV 2 E.1.2.2.2.2 (lw_V q1918 q1920 qs65 q142 q1921) rfl rfl rfl (by decide +kernel) hR) dM_500 rfl rfl rfl hsz rfl hW hdg hcs kk
/-! isDigit(I)Z -/
abbrev rmM_isDigit : Room := { frames := 0, cells := 0, slots := 0, locals := 0 }
set_option maxHeartbeats 4000000 in
theorem wkM_isDigit {x1 : Int32} {r_ : Int32} (E : EN p s m args meth c0 RX16 cX16_isDigit 2 (Option.some Jvm.ClassFile.FieldType.boolean)) (hK : KK D clsA G s) (hA : ∀ q, PA dscM ad s.heap.size q → A q) (hf : mo_isDigit (σ.1 506) (σ.2.2.1 600) x1 = some r_) (hQ : Q = MQ below (va_Qi (fun x (_ : Unit) => x = r_) (fun _ t => PM D G ad σ t.heap ∧ KK D clsA G t) A) args s 0 0 A) (hP : PM D G ad σ H) (hS : va_S A s.heap H locs) (hl : lv_has ls 2 [(0, .ref (ad 500)), (1, .int x1)]) : W p l e rmM_isDigit s m args below meth c0 H locs 0 0 Q (F0 m 0 ls []) := by
  obtain ⟨⟨hx, hb, hml, hown, hts⟩, hr, hlk⟩ := id E
  unfold mo_isDigit at hf
  refine lv_iload_n hx hb dX16_isDigit_0 rfl (lv_at hl 1 rfl) ?_
  refine lv_aload_n hx hb dX16_isDigit_1 rfl (lv_at hl 0 rfl) ?_
  refine gM_6 (v := (σ.1 506)) E hK hP rfl dX16_isDigit_2 ?_
  have J34 : mo_isDigit_J34 = some r_ → ∀ (H : Heap) (locs : List Loc), PM D G ad σ H → va_S A s.heap H locs → ∀ (ls : Array Slot), lv_has ls 2 [] → W p l e rmM_isDigit s m args below meth c0 H locs 0 0 Q (F0 m 34 ls []) := by
    intro  hf H locs hP hS ls hl
    unfold mo_isDigit_J34 at hf
    refine lv_iconst hx hb dX16_isDigit_34 ic_0 ?_
    cases hf
    rw [hQ]; exact p_zret hx hb hr hlk hK hP hS rfl dX16_isDigit_35
  refine lv_icmp_ge (tgt := 34) hx hb dX16_isDigit_5 (by decide) (fun c1 => ?_) (fun c1 => ?_)
  · have hf := ifT c1 hf
    exact J34  hf H locs hP hS ls (lv_sub hl [] rfl)
  · have hf := ifF c1 hf
    refine lv_aload_n hx hb dX16_isDigit_8 rfl (lv_at hl 0 rfl) ?_
    refine gM_0 E hK hP dX16_isDigit_9 ?_
    refine lv_iload_n hx hb dX16_isDigit_12 rfl (lv_at hl 1 rfl) ?_
    obtain ⟨v2, hv2, hf⟩ := bdP hf
    refine p_iald hx hb hK hP dM_600 rfl hv2 dX16_isDigit_13 ?_
    refine lv_bipush hx hb dX16_isDigit_14 bp_48 ?_
    refine lv_icmp_lt (tgt := 34) hx hb dX16_isDigit_16 (by decide) (fun c3 => ?_) (fun c3 => ?_)
    · have hf := ifT c3 hf
      exact J34  hf H locs hP hS ls (lv_sub hl [] rfl)
    · have hf := ifF c3 hf
      refine lv_aload_n hx hb dX16_isDigit_19 rfl (lv_at hl 0 rfl) ?_
      refine gM_0 E hK hP dX16_isDigit_20 ?_
      refine lv_iload_n hx hb dX16_isDigit_23 rfl (lv_at hl 1 rfl) ?_
      obtain ⟨v4, hv4, hf⟩ := bdP hf
      refine p_iald hx hb hK hP dM_600 rfl hv4 dX16_isDigit_24 ?_
      refine lv_bipush hx hb dX16_isDigit_25 bp_57 ?_
      refine lv_icmp_gt (tgt := 34) hx hb dX16_isDigit_27 (by decide) (fun c5 => ?_) (fun c5 => ?_)
      · have hf := ifT c5 hf
        exact J34  hf H locs hP hS ls (lv_sub hl [] rfl)
      · have hf := ifF c5 hf
        refine lv_iconst hx hb dX16_isDigit_30 ic_1 ?_
        refine lv_goto (tgt := 35) hx hb dX16_isDigit_31 (by decide) ?_
        cases hf
        rw [hQ]; exact p_zret hx hb hr hlk hK hP hS rfl dX16_isDigit_35
theorem kM_isDigit (l : Launch) (D : va_G) (G : Nat → ClassId) (ad : Nat → Nat) (σ : Sto) {x1 : Int32} {r_ : Int32} (hf : mo_isDigit (σ.1 506) (σ.2.2.1 600) x1 = some r_) : CtI l D clsA G dscM ad yX16_isDigit (ws_ yX16_isDigit cX16_isDigit 2 (Option.some Jvm.ClassFile.FieldType.boolean)) rmM_isDigit [.ref (ad 500), .int x1] σ r_ σ :=
  p_ctI (by decide +kernel) (Nat.le_of_ble_eq_true rfl) (fun p e s m below meth c0 ls A E hP hK hA hS hl => wkM_isDigit E hK hA hf rfl hP hS hl)
theorem cM_isDigit (E : EN p s m args meth c0 RX16 cc nL ret) (hK : KK D clsA G s) (hP : PM D G ad σ H) (hS : va_S A s.heap H locs) (hA : ∀ q, PA dscM ad s.heap.size q → A q) {x1 : Int32} {r_ : Int32} {z_stop : Int32} (e_zI506 : σ.1 506 = z_stop) {a_tape : Nat → Int32} (e_aI600 : σ.2.2.1 600 = a_tape) (hu : mo_isDigit z_stop a_tape x1 = some r_) (hR : rmM_isDigit.frames + 1 ≤ R.frames ∧ 8 + (2 + 11) + rmM_isDigit.locals ≤ R.locals) (hcs : cells ≤ R.cells ∧ slots ≤ R.slots) (hsz : ls.size = nL) (hW : (rest.map fun v => v.category).sum ≤ 8) (hdg : decode cc pc = .ok (.invokevirtual 173, 3)) (kk : ∀ (H1 : Heap) (locs1 : List Loc), PM D G ad σ H1 → va_S A s.heap H1 locs1 → W p l e R s m args below meth c0 H1 locs1 cells slots Q (F0 m (pc + 3) ls (.int r_ :: rest))) : W p l e R s m args below meth c0 H locs cells slots Q (F0 m pc ls (.int x1 :: .ref (ad 500) :: rest)) := by
  subst e_zI506
  subst e_aI600
  exact p_callI (As := [.int x1]) (rest := rest) E.1 hK hP hS hA (kM_isDigit l D G ad σ hu) (cwV 1 E.1.2.2.2.2 (lw_V q1890 q1892 qs58 q142 q1893) rfl rfl rfl (by decide +kernel) hR) dM_500 rfl rfl rfl hsz rfl hW hdg hcs kk
/-! isSmall(I)Z -/
abbrev rmM_isSmall : Room := { frames := 0, cells := 0, slots := 0, locals := 0 }
set_option maxHeartbeats 4000000 in
theorem wkM_isSmall {x1 : Int32} {r_ : Int32} (E : EN p s m args meth c0 RX16 cX16_isSmall 2 (Option.some Jvm.ClassFile.FieldType.boolean)) (hK : KK D clsA G s) (hA : ∀ q, PA dscM ad s.heap.size q → A q) (hf : mo_isSmall (σ.1 506) (σ.2.2.1 600) x1 = some r_) (hQ : Q = MQ below (va_Qi (fun x (_ : Unit) => x = r_) (fun _ t => PM D G ad σ t.heap ∧ KK D clsA G t) A) args s 0 0 A) (hP : PM D G ad σ H) (hS : va_S A s.heap H locs) (hl : lv_has ls 2 [(0, .ref (ad 500)), (1, .int x1)]) : W p l e rmM_isSmall s m args below meth c0 H locs 0 0 Q (F0 m 0 ls []) := by
  obtain ⟨⟨hx, hb, hml, hown, hts⟩, hr, hlk⟩ := id E
  unfold mo_isSmall at hf
  refine lv_iload_n hx hb dX16_isSmall_0 rfl (lv_at hl 1 rfl) ?_
  refine lv_aload_n hx hb dX16_isSmall_1 rfl (lv_at hl 0 rfl) ?_
  refine gM_6 (v := (σ.1 506)) E hK hP rfl dX16_isSmall_2 ?_
  have J34 : mo_isSmall_J34 = some r_ → ∀ (H : Heap) (locs : List Loc), PM D G ad σ H → va_S A s.heap H locs → ∀ (ls : Array Slot), lv_has ls 2 [] → W p l e rmM_isSmall s m args below meth c0 H locs 0 0 Q (F0 m 34 ls []) := by
    intro  hf H locs hP hS ls hl
    unfold mo_isSmall_J34 at hf
    refine lv_iconst hx hb dX16_isSmall_34 ic_0 ?_
    cases hf
    rw [hQ]; exact p_zret hx hb hr hlk hK hP hS rfl dX16_isSmall_35
  refine lv_icmp_ge (tgt := 34) hx hb dX16_isSmall_5 (by decide) (fun c1 => ?_) (fun c1 => ?_)
  · have hf := ifT c1 hf
    exact J34  hf H locs hP hS ls (lv_sub hl [] rfl)
  · have hf := ifF c1 hf
    refine lv_aload_n hx hb dX16_isSmall_8 rfl (lv_at hl 0 rfl) ?_
    refine gM_0 E hK hP dX16_isSmall_9 ?_
    refine lv_iload_n hx hb dX16_isSmall_12 rfl (lv_at hl 1 rfl) ?_
    obtain ⟨v2, hv2, hf⟩ := bdP hf
    refine p_iald hx hb hK hP dM_600 rfl hv2 dX16_isSmall_13 ?_
    refine lv_bipush hx hb dX16_isSmall_14 bp_97 ?_
    refine lv_icmp_lt (tgt := 34) hx hb dX16_isSmall_16 (by decide) (fun c3 => ?_) (fun c3 => ?_)
    · have hf := ifT c3 hf
      exact J34  hf H locs hP hS ls (lv_sub hl [] rfl)
    · have hf := ifF c3 hf
      refine lv_aload_n hx hb dX16_isSmall_19 rfl (lv_at hl 0 rfl) ?_
      refine gM_0 E hK hP dX16_isSmall_20 ?_
      refine lv_iload_n hx hb dX16_isSmall_23 rfl (lv_at hl 1 rfl) ?_
      obtain ⟨v4, hv4, hf⟩ := bdP hf
      refine p_iald hx hb hK hP dM_600 rfl hv4 dX16_isSmall_24 ?_
      refine lv_bipush hx hb dX16_isSmall_25 bp_122 ?_
      refine lv_icmp_gt (tgt := 34) hx hb dX16_isSmall_27 (by decide) (fun c5 => ?_) (fun c5 => ?_)
      · have hf := ifT c5 hf
        exact J34  hf H locs hP hS ls (lv_sub hl [] rfl)
      · have hf := ifF c5 hf
        refine lv_iconst hx hb dX16_isSmall_30 ic_1 ?_
        refine lv_goto (tgt := 35) hx hb dX16_isSmall_31 (by decide) ?_
        cases hf
        rw [hQ]; exact p_zret hx hb hr hlk hK hP hS rfl dX16_isSmall_35
theorem kM_isSmall (l : Launch) (D : va_G) (G : Nat → ClassId) (ad : Nat → Nat) (σ : Sto) {x1 : Int32} {r_ : Int32} (hf : mo_isSmall (σ.1 506) (σ.2.2.1 600) x1 = some r_) : CtI l D clsA G dscM ad yX16_isSmall (ws_ yX16_isSmall cX16_isSmall 2 (Option.some Jvm.ClassFile.FieldType.boolean)) rmM_isSmall [.ref (ad 500), .int x1] σ r_ σ :=
  p_ctI (by decide +kernel) (Nat.le_of_ble_eq_true rfl) (fun p e s m below meth c0 ls A E hP hK hA hS hl => wkM_isSmall E hK hA hf rfl hP hS hl)
theorem cM_isSmall (E : EN p s m args meth c0 RX16 cc nL ret) (hK : KK D clsA G s) (hP : PM D G ad σ H) (hS : va_S A s.heap H locs) (hA : ∀ q, PA dscM ad s.heap.size q → A q) {x1 : Int32} {r_ : Int32} {z_stop : Int32} (e_zI506 : σ.1 506 = z_stop) {a_tape : Nat → Int32} (e_aI600 : σ.2.2.1 600 = a_tape) (hu : mo_isSmall z_stop a_tape x1 = some r_) (hR : rmM_isSmall.frames + 1 ≤ R.frames ∧ 8 + (2 + 11) + rmM_isSmall.locals ≤ R.locals) (hcs : cells ≤ R.cells ∧ slots ≤ R.slots) (hsz : ls.size = nL) (hW : (rest.map fun v => v.category).sum ≤ 8) (hdg : decode cc pc = .ok (.invokevirtual 159, 3)) (kk : ∀ (H1 : Heap) (locs1 : List Loc), PM D G ad σ H1 → va_S A s.heap H1 locs1 → W p l e R s m args below meth c0 H1 locs1 cells slots Q (F0 m (pc + 3) ls (.int r_ :: rest))) : W p l e R s m args below meth c0 H locs cells slots Q (F0 m pc ls (.int x1 :: .ref (ad 500) :: rest)) := by
  subst e_zI506
  subst e_aI600
  exact p_callI (As := [.int x1]) (rest := rest) E.1 hK hP hS hA (kM_isSmall l D G ad σ hu) (cwV 1 E.1.2.2.2.2 (lw_V q1878 q1880 qs55 q142 q1881) rfl rfl rfl (by decide +kernel) hR) dM_500 rfl rfl rfl hsz rfl hW hdg hcs kk
/-! packed(II)I -/
abbrev rmM_packed : Room := { frames := 0, cells := 0, slots := 0, locals := 0 }
set_option maxHeartbeats 4000000 in
theorem wkM_packed {x1 : Int32} {x2 : Int32} {r_ : Int32} (E : EN p s m args meth c0 RX16 cX16_packed 5 (Option.some Jvm.ClassFile.FieldType.int)) (hK : KK D clsA G s) (hA : ∀ q, PA dscM ad s.heap.size q → A q) (hf : mo_packed (σ.2.2.1 600) x1 x2 = some r_) (hQ : Q = MQ below (va_Qi (fun x (_ : Unit) => x = r_) (fun _ t => PM D G ad σ t.heap ∧ KK D clsA G t) A) args s 0 0 A) (hP : PM D G ad σ H) (hS : va_S A s.heap H locs) (hl : lv_has ls 5 [(0, .ref (ad 500)), (1, .int x1), (2, .int x2)]) : W p l e rmM_packed s m args below meth c0 H locs 0 0 Q (F0 m 0 ls []) := by
  obtain ⟨⟨hx, hb, hml, hown, hts⟩, hr, hlk⟩ := id E
  unfold mo_packed at hf
  refine lv_iconst hx hb dX16_packed_0 ic_0 ?_
  refine lv_istore_n (lv' := [(3, .int 0), (0, .ref (ad 500)), (1, .int x1), (2, .int x2)]) hx hb dX16_packed_1 rfl hl (by decide) rfl (fun ls hl => ?_)
  refine lv_iload_n hx hb dX16_packed_2 rfl (lv_at hl 2 rfl) ?_
  refine lv_istore (lv' := [(4, .int x1), (3, .int 0), (0, .ref (ad 500)), (1, .int x1), (2, .int x2)]) hx hb dX16_packed_3 hl (by decide) rfl (fun ls hl => ?_)
  have LP5 : ∀ (st5 : Int32 × Int32) (ex5 : (Int32)), loop (mo_packed_L5 (σ.2.2.1 600) x1 x2) st5 = some ex5 → ∀ (H : Heap) (locs : List Loc), PM D G ad σ H → va_S A s.heap H locs → ∀ (ls : Array Slot), lv_has ls 5 [(0, .ref (ad 500)), (1, .int x1), (2, .int x2), (3, .int (st5.1)), (4, .int (st5.2))] → (∀ (y10 : Int32), ex5 = y10 → ∀ (H : Heap) (locs : List Loc), PM D G ad σ H → va_S A s.heap H locs → ∀ (ls : Array Slot), lv_has ls 5 [(3, .int y10)] → W p l e rmM_packed s m args below meth c0 H locs 0 0 Q (F0 m 45 ls [])) → W p l e rmM_packed s m args below meth c0 H locs 0 0 Q (F0 m 5 ls []) := by
    refine loop_P (fun st5 ex5 o5 hf ih5 hx5 => ?_)
    obtain ⟨y1, y2⟩ := st5
    intro H locs (hP : PM D G ad σ H) hS ls (hl : lv_has ls 5 [(0, .ref (ad 500)), (1, .int x1), (2, .int x2), (3, .int y1), (4, .int y2)]) KE5_0
    dsimp only [mo_packed_L5] at hf
    refine lv_iload hx hb dX16_packed_5 (lv_at hl 4 rfl) ?_
    refine lv_iload_n hx hb dX16_packed_7 rfl (lv_at hl 1 rfl) ?_
    refine lv_bipush hx hb dX16_packed_8 bp_6 ?_
    refine lv_iadd hx hb dX16_packed_10 ?_
    refine lv_icmp_ge (tgt := 45) hx hb dX16_packed_11 (by decide) (fun c3 => ?_) (fun c3 => ?_)
    · have hf := ifT c3 hf
      exact KE5_0 _ (hx5 _ (Option.some.inj hf).symm).symm H locs hP hS ls (lv_sub hl [3] rfl)
    · have hf := ifF c3 hf
      refine lv_iload_n hx hb dX16_packed_14 rfl (lv_at hl 3 rfl) ?_
      refine lv_iconst hx hb dX16_packed_15 ic_5 ?_
      refine lv_ishl hx hb dX16_packed_16 ?_
      refine lv_iload hx hb dX16_packed_17 (lv_at hl 4 rfl) ?_
      refine lv_iload_n hx hb dX16_packed_19 rfl (lv_at hl 2 rfl) ?_
      have J37 : ∀ (k4 : Int32) (k5 : Int32), mo_packed_J37 y2 k4 k5 = some o5 → ∀ (H : Heap) (locs : List Loc), PM D G ad σ H → va_S A s.heap H locs → ∀ (ls : Array Slot), lv_has ls 5 [(0, .ref (ad 500)), (1, .int x1), (2, .int x2), (4, .int y2)] → W p l e rmM_packed s m args below meth c0 H locs 0 0 Q (F0 m 37 ls [.int k4, .int k5]) := by
        intro k4 k5 hf H locs hP hS ls hl
        unfold mo_packed_J37 at hf
        refine lv_ior hx hb dX16_packed_37 ?_
        obtain ⟨v6, hv6, hf⟩ := bdP hf
        refine nm_i (Option.some.inj hv6) ?_
        refine lv_istore_n (lv' := [(3, .int v6), (0, .ref (ad 500)), (1, .int x1), (2, .int x2), (4, .int y2)]) hx hb dX16_packed_38 rfl hl (by decide) rfl (fun ls hl => ?_)
        obtain ⟨v7, hv7, hf⟩ := bdP hf
        refine lv_iinc (v := v7) (lv' := [(4, .int v7), (3, .int v6), (0, .ref (ad 500)), (1, .int x1), (2, .int x2)]) hx hb dX16_packed_39 hl (k := 4) rfl (Option.some.inj hv7) (by decide) rfl (fun ls hl => ?_)
        refine lv_goto (tgt := 5) hx hb dX16_packed_42 (by decide) ?_
        exact ih5 _ (Option.some.inj hf).symm H locs hP hS ls (lv_sub hl [2, 3, 4, 1, 0] rfl) KE5_0
      refine lv_icmp_ge (tgt := 36) hx hb dX16_packed_20 (by decide) (fun c8 => ?_) (fun c8 => ?_)
      · have hf := ifT c8 hf
        refine lv_iconst hx hb dX16_packed_36 ic_0 ?_
        exact J37 0 (y1 <<< (5 &&& 31)) hf H locs hP hS ls (lv_sub hl [0, 1, 2, 4] rfl)
      · have hf := ifF c8 hf
        refine lv_aload_n hx hb dX16_packed_23 rfl (lv_at hl 0 rfl) ?_
        refine gM_0 E hK hP dX16_packed_24 ?_
        refine lv_iload hx hb dX16_packed_27 (lv_at hl 4 rfl) ?_
        obtain ⟨v9, hv9, hf⟩ := bdP hf
        refine p_iald hx hb hK hP dM_600 rfl hv9 dX16_packed_29 ?_
        refine lv_bipush hx hb dX16_packed_30 bp_96 ?_
        refine lv_isub hx hb dX16_packed_32 ?_
        refine lv_goto (tgt := 37) hx hb dX16_packed_33 (by decide) ?_
        exact J37 (v9 - 96) (y1 <<< (5 &&& 31)) hf H locs hP hS ls (lv_sub hl [0, 1, 2, 4] rfl)
  obtain ⟨ex5, hlp5, hf⟩ := bdP hf
  refine LP5 (0, x1) ex5 hlp5 H locs hP hS ls (lv_sub hl [2, 3, 4, 1, 0] rfl) ?_
  intro y10 hex5 H locs hP hS ls hl
  subst ex5
  refine lv_iload_n hx hb dX16_packed_45 rfl (lv_at hl 0 rfl) ?_
  cases hf
  rw [hQ]; exact p_iret hx hb hr hlk hK hP hS dX16_packed_46
theorem kM_packed (l : Launch) (D : va_G) (G : Nat → ClassId) (ad : Nat → Nat) (σ : Sto) {x1 : Int32} {x2 : Int32} {r_ : Int32} (hf : mo_packed (σ.2.2.1 600) x1 x2 = some r_) : CtI l D clsA G dscM ad yX16_packed (ws_ yX16_packed cX16_packed 5 (Option.some Jvm.ClassFile.FieldType.int)) rmM_packed [.ref (ad 500), .int x1, .int x2] σ r_ σ :=
  p_ctI (by decide +kernel) (Nat.le_of_ble_eq_true rfl) (fun p e s m below meth c0 ls A E hP hK hA hS hl => wkM_packed E hK hA hf rfl hP hS hl)
theorem cM_packed (E : EN p s m args meth c0 RX16 cc nL ret) (hK : KK D clsA G s) (hP : PM D G ad σ H) (hS : va_S A s.heap H locs) (hA : ∀ q, PA dscM ad s.heap.size q → A q) {x1 : Int32} {x2 : Int32} {r_ : Int32} {a_tape : Nat → Int32} (e_aI600 : σ.2.2.1 600 = a_tape) (hu : mo_packed a_tape x1 x2 = some r_) (hR : rmM_packed.frames + 1 ≤ R.frames ∧ 8 + (5 + 11) + rmM_packed.locals ≤ R.locals) (hcs : cells ≤ R.cells ∧ slots ≤ R.slots) (hsz : ls.size = nL) (hW : (rest.map fun v => v.category).sum ≤ 8) (hdg : decode cc pc = .ok (.invokevirtual 170, 3)) (kk : ∀ (H1 : Heap) (locs1 : List Loc), PM D G ad σ H1 → va_S A s.heap H1 locs1 → W p l e R s m args below meth c0 H1 locs1 cells slots Q (F0 m (pc + 3) ls (.int r_ :: rest))) : W p l e R s m args below meth c0 H locs cells slots Q (F0 m pc ls (.int x2 :: .int x1 :: .ref (ad 500) :: rest)) := by
  subst e_aI600
  exact p_callI (As := [.int x1, .int x2]) (rest := rest) E.1 hK hP hS hA (kM_packed l D G ad σ hu) (cwV 2 E.1.2.2.2.2 (lw_V q1886 q1888 qs57 q142 q1889) rfl rfl rfl (by decide +kernel) hR) dM_500 rfl rfl rfl hsz rfl hW hdg hcs kk
/-! wordAt(II)I -/
abbrev rmM_wordAt : Room := { frames := 0, cells := 0, slots := 0, locals := 0 }
set_option maxHeartbeats 4000000 in
theorem wkM_wordAt {x1 : Int32} {x2 : Int32} {r_ : Int32} (E : EN p s m args meth c0 RX16 cX16_wordAt 8 (Option.some Jvm.ClassFile.FieldType.int)) (hK : KK D clsA G s) (hA : ∀ q, PA dscM ad s.heap.size q → A q) (hf : mo_wordAt (σ.2.2.1 600) (σ.2.2.1 603) x1 x2 = some r_) (hQ : Q = MQ below (va_Qi (fun x (_ : Unit) => x = r_) (fun _ t => PM D G ad σ t.heap ∧ KK D clsA G t) A) args s 0 0 A) (hP : PM D G ad σ H) (hS : va_S A s.heap H locs) (hl : lv_has ls 8 [(0, .ref (ad 500)), (1, .int x1), (2, .int x2)]) : W p l e rmM_wordAt s m args below meth c0 H locs 0 0 Q (F0 m 0 ls []) := by
  obtain ⟨⟨hx, hb, hml, hown, hts⟩, hr, hlk⟩ := id E
  unfold mo_wordAt at hf
  refine lv_iconst hx hb dX16_wordAt_0 ic_0 ?_
  refine lv_istore_n (lv' := [(3, .int 0), (0, .ref (ad 500)), (1, .int x1), (2, .int x2)]) hx hb dX16_wordAt_1 rfl hl (by decide) rfl (fun ls hl => ?_)
  refine lv_iconst hx hb dX16_wordAt_2 ic_0 ?_
  refine lv_istore (lv' := [(4, .int 0), (3, .int 0), (0, .ref (ad 500)), (1, .int x1), (2, .int x2)]) hx hb dX16_wordAt_3 hl (by decide) rfl (fun ls hl => ?_)
  have LP5 : ∀ (st5 : Int32 × Int32) (ex5 : (Int32) ⊕ (Unit)), loop (mo_wordAt_L5 (σ.2.2.1 600) (σ.2.2.1 603) x1 x2) st5 = some ex5 → ∀ (H : Heap) (locs : List Loc), PM D G ad σ H → va_S A s.heap H locs → ∀ (ls : Array Slot), lv_has ls 8 [(0, .ref (ad 500)), (1, .int x1), (2, .int x2), (3, .int (st5.1)), (4, .int (st5.2))] → (∀ (y24 : Int32), ex5 = (.inl y24) → ∀ (H : Heap) (locs : List Loc), PM D G ad σ H → va_S A s.heap H locs → ∀ (ls : Array Slot), lv_has ls 8 [(3, .int y24)] → W p l e rmM_wordAt s m args below meth c0 H locs 0 0 Q (F0 m 109 ls [])) → (ex5 = (.inr ()) → ∀ (H : Heap) (locs : List Loc), PM D G ad σ H → va_S A s.heap H locs → ∀ (ls : Array Slot), lv_has ls 8 [] → W p l e rmM_wordAt s m args below meth c0 H locs 0 0 Q (F0 m 126 ls [])) → W p l e rmM_wordAt s m args below meth c0 H locs 0 0 Q (F0 m 5 ls []) := by
    refine loop_P (fun st5 ex5 o5 hf ih5 hx5 => ?_)
    obtain ⟨y1, y2⟩ := st5
    intro H locs (hP : PM D G ad σ H) hS ls (hl : lv_has ls 8 [(0, .ref (ad 500)), (1, .int x1), (2, .int x2), (3, .int y1), (4, .int y2)]) KE5_0 KE5_1
    dsimp only [mo_wordAt_L5] at hf
    refine lv_iload hx hb dX16_wordAt_5 (lv_at hl 4 rfl) ?_
    refine lv_aload_n hx hb dX16_wordAt_7 rfl (lv_at hl 0 rfl) ?_
    refine gM_3 E hK hP dX16_wordAt_8 ?_
    refine p_alen hx hb hK hP dM_603 (by decide) rfl dX16_wordAt_11 ?_
    refine lv_icmp_ge (tgt := 126) hx hb dX16_wordAt_12 (by decide) (fun c3 => ?_) (fun c3 => ?_)
    · have hf := ifT c3 hf
      exact KE5_1  (hx5 _ (Option.some.inj hf).symm).symm H locs hP hS ls (lv_sub hl [] rfl)
    · have hf := ifF c3 hf
      refine lv_iconst hx hb dX16_wordAt_15 ic_0 ?_
      refine lv_istore (lv' := [(5, .int 0), (0, .ref (ad 500)), (1, .int x1), (2, .int x2), (3, .int y1), (4, .int y2)]) hx hb dX16_wordAt_16 hl (by decide) rfl (fun ls hl => ?_)
      have LP18 : ∀ (st18 : Int32) (ex18 : (Int32)), loop (mo_wordAt_L18 (σ.2.2.1 603) y2) st18 = some ex18 → ∀ (H : Heap) (locs : List Loc), PM D G ad σ H → va_S A s.heap H locs → ∀ (ls : Array Slot), lv_has ls 8 [(0, .ref (ad 500)), (1, .int x1), (2, .int x2), (3, .int y1), (4, .int y2), (5, .int st18)] → (∀ (y8 : Int32), ex18 = y8 → ∀ (H : Heap) (locs : List Loc), PM D G ad σ H → va_S A s.heap H locs → ∀ (ls : Array Slot), lv_has ls 8 [(0, .ref (ad 500)), (1, .int x1), (2, .int x2), (3, .int y1), (4, .int y2), (5, .int y8)] → W p l e rmM_wordAt s m args below meth c0 H locs 0 0 Q (F0 m 39 ls [])) → W p l e rmM_wordAt s m args below meth c0 H locs 0 0 Q (F0 m 18 ls []) := by
        refine loop_P (fun st18 ex18 o18 hf ih18 hx18 => ?_)
        obtain ⟨y4, rfl⟩ : ∃ z, z = st18 := ⟨_, rfl⟩
        intro H locs (hP : PM D G ad σ H) hS ls (hl : lv_has ls 8 [(0, .ref (ad 500)), (1, .int x1), (2, .int x2), (3, .int y1), (4, .int y2), (5, .int y4)]) KE18_0
        dsimp only [mo_wordAt_L18] at hf
        refine lv_aload_n hx hb dX16_wordAt_18 rfl (lv_at hl 0 rfl) ?_
        refine gM_3 E hK hP dX16_wordAt_19 ?_
        refine lv_iload hx hb dX16_wordAt_22 (lv_at hl 4 rfl) ?_
        refine lv_iload hx hb dX16_wordAt_24 (lv_at hl 5 rfl) ?_
        refine lv_iadd hx hb dX16_wordAt_26 ?_
        obtain ⟨v5, hv5, hf⟩ := bdP hf
        refine p_iald hx hb hK hP dM_603 rfl hv5 dX16_wordAt_27 ?_
        refine lv_bipush hx hb dX16_wordAt_28 bp_32 ?_
        refine lv_icmp_eq (tgt := 39) hx hb dX16_wordAt_30 (by decide) (fun c6 => ?_) (fun c6 => ?_)
        · have hf := ifT c6 hf
          exact KE18_0 _ (hx18 _ (Option.some.inj hf).symm).symm H locs hP hS ls (lv_sub hl [0, 1, 2, 3, 4, 5] rfl)
        · have hf := ifF c6 hf
          obtain ⟨v7, hv7, hf⟩ := bdP hf
          refine lv_iinc (v := v7) (lv' := [(5, .int v7), (0, .ref (ad 500)), (1, .int x1), (2, .int x2), (3, .int y1), (4, .int y2)]) hx hb dX16_wordAt_33 hl (k := 5) rfl (Option.some.inj hv7) (by decide) rfl (fun ls hl => ?_)
          refine lv_goto (tgt := 18) hx hb dX16_wordAt_36 (by decide) ?_
          exact ih18 _ (Option.some.inj hf).symm H locs hP hS ls (lv_sub hl [1, 2, 3, 4, 5, 0] rfl) KE18_0
      obtain ⟨ex18, hlp18, hf⟩ := bdP hf
      refine LP18 0 ex18 hlp18 H locs hP hS ls (lv_sub hl [1, 2, 3, 4, 5, 0] rfl) ?_
      intro y8 hex18 H locs hP hS ls hl
      subst ex18
      refine lv_iload hx hb dX16_wordAt_39 (lv_at hl 5 rfl) ?_
      refine lv_iload_n hx hb dX16_wordAt_41 rfl (lv_at hl 2 rfl) ?_
      refine lv_iload_n hx hb dX16_wordAt_42 rfl (lv_at hl 1 rfl) ?_
      refine lv_isub hx hb dX16_wordAt_43 ?_
      have J52 : ∀ (k9 : Int32), mo_wordAt_J52 (σ.2.2.1 600) (σ.2.2.1 603) x1 y1 y2 y8 k9 = some o5 → ∀ (H : Heap) (locs : List Loc), PM D G ad σ H → va_S A s.heap H locs → ∀ (ls : Array Slot), lv_has ls 8 [(0, .ref (ad 500)), (1, .int x1), (2, .int x2), (3, .int y1), (4, .int y2), (5, .int y8)] → W p l e rmM_wordAt s m args below meth c0 H locs 0 0 Q (F0 m 52 ls [.int k9]) := by
        intro k9 hf H locs hP hS ls hl
        unfold mo_wordAt_J52 at hf
        refine lv_istore (lv' := [(6, .int k9), (0, .ref (ad 500)), (1, .int x1), (2, .int x2), (3, .int y1), (4, .int y2), (5, .int y8)]) hx hb dX16_wordAt_52 hl (by decide) rfl (fun ls hl => ?_)
        refine lv_iconst hx hb dX16_wordAt_54 ic_0 ?_
        refine lv_istore (lv' := [(7, .int 0), (6, .int k9), (0, .ref (ad 500)), (1, .int x1), (2, .int x2), (3, .int y1), (4, .int y2), (5, .int y8)]) hx hb dX16_wordAt_55 hl (by decide) rfl (fun ls hl => ?_)
        have LP57 : ∀ (st57 : Int32 × Int32) (ex57 : (Int32)), loop (mo_wordAt_L57 (σ.2.2.1 600) (σ.2.2.1 603) x1 y2 y8) st57 = some ex57 → ∀ (H : Heap) (locs : List Loc), PM D G ad σ H → va_S A s.heap H locs → ∀ (ls : Array Slot), lv_has ls 8 [(0, .ref (ad 500)), (1, .int x1), (2, .int x2), (3, .int y1), (4, .int y2), (5, .int y8), (6, .int (st57.1)), (7, .int (st57.2))] → (∀ (y19 : Int32), ex57 = y19 → ∀ (H : Heap) (locs : List Loc), PM D G ad σ H → va_S A s.heap H locs → ∀ (ls : Array Slot), lv_has ls 8 [(0, .ref (ad 500)), (1, .int x1), (2, .int x2), (3, .int y1), (4, .int y2), (5, .int y8), (6, .int y19)] → W p l e rmM_wordAt s m args below meth c0 H locs 0 0 Q (F0 m 104 ls [])) → W p l e rmM_wordAt s m args below meth c0 H locs 0 0 Q (F0 m 57 ls []) := by
          refine loop_P (fun st57 ex57 o57 hf ih57 hx57 => ?_)
          obtain ⟨y10, y11⟩ := st57
          intro H locs (hP : PM D G ad σ H) hS ls (hl : lv_has ls 8 [(0, .ref (ad 500)), (1, .int x1), (2, .int x2), (3, .int y1), (4, .int y2), (5, .int y8), (6, .int y10), (7, .int y11)]) KE57_0
          dsimp only [mo_wordAt_L57] at hf
          refine lv_iload hx hb dX16_wordAt_57 (lv_at hl 7 rfl) ?_
          refine lv_iload hx hb dX16_wordAt_59 (lv_at hl 5 rfl) ?_
          refine lv_icmp_ge (tgt := 104) hx hb dX16_wordAt_61 (by decide) (fun c12 => ?_) (fun c12 => ?_)
          · have hf := ifT c12 hf
            exact KE57_0 _ (hx57 _ (Option.some.inj hf).symm).symm H locs hP hS ls (lv_sub hl [0, 1, 2, 3, 4, 5, 6] rfl)
          · have hf := ifF c12 hf
            refine lv_iload hx hb dX16_wordAt_64 (lv_at hl 6 rfl) ?_
            refine lv_if_eq (tgt := 104) hx hb dX16_wordAt_66 (by decide) (fun c13 => ?_) (fun c13 => ?_)
            · have hf := ifT c13 hf
              exact KE57_0 _ (hx57 _ (Option.some.inj hf).symm).symm H locs hP hS ls (lv_sub hl [0, 1, 2, 3, 4, 5, 6] rfl)
            · have hf := ifF c13 hf
              refine lv_aload_n hx hb dX16_wordAt_69 rfl (lv_at hl 0 rfl) ?_
              refine gM_3 E hK hP dX16_wordAt_70 ?_
              refine lv_iload hx hb dX16_wordAt_73 (lv_at hl 4 rfl) ?_
              refine lv_iload hx hb dX16_wordAt_75 (lv_at hl 7 rfl) ?_
              refine lv_iadd hx hb dX16_wordAt_77 ?_
              obtain ⟨v14, hv14, hf⟩ := bdP hf
              refine p_iald hx hb hK hP dM_603 rfl hv14 dX16_wordAt_78 ?_
              refine lv_aload_n hx hb dX16_wordAt_79 rfl (lv_at hl 0 rfl) ?_
              refine gM_0 E hK hP dX16_wordAt_80 ?_
              refine lv_iload_n hx hb dX16_wordAt_83 rfl (lv_at hl 1 rfl) ?_
              refine lv_iload hx hb dX16_wordAt_84 (lv_at hl 7 rfl) ?_
              refine lv_iadd hx hb dX16_wordAt_86 ?_
              obtain ⟨v15, hv15, hf⟩ := bdP hf
              refine p_iald hx hb hK hP dM_600 rfl hv15 dX16_wordAt_87 ?_
              have J96 : ∀ (k16 : Int32), mo_wordAt_J96 y11 k16 = some o57 → ∀ (H : Heap) (locs : List Loc), PM D G ad σ H → va_S A s.heap H locs → ∀ (ls : Array Slot), lv_has ls 8 [(0, .ref (ad 500)), (1, .int x1), (2, .int x2), (3, .int y1), (4, .int y2), (5, .int y8), (7, .int y11)] → W p l e rmM_wordAt s m args below meth c0 H locs 0 0 Q (F0 m 96 ls [.int k16]) := by
                intro k16 hf H locs hP hS ls hl
                unfold mo_wordAt_J96 at hf
                refine lv_istore (lv' := [(6, .int k16), (0, .ref (ad 500)), (1, .int x1), (2, .int x2), (3, .int y1), (4, .int y2), (5, .int y8), (7, .int y11)]) hx hb dX16_wordAt_96 hl (by decide) rfl (fun ls hl => ?_)
                obtain ⟨v17, hv17, hf⟩ := bdP hf
                refine lv_iinc (v := v17) (lv' := [(7, .int v17), (6, .int k16), (0, .ref (ad 500)), (1, .int x1), (2, .int x2), (3, .int y1), (4, .int y2), (5, .int y8)]) hx hb dX16_wordAt_98 hl (k := 7) rfl (Option.some.inj hv17) (by decide) rfl (fun ls hl => ?_)
                refine lv_goto (tgt := 57) hx hb dX16_wordAt_101 (by decide) ?_
                exact ih57 _ (Option.some.inj hf).symm H locs hP hS ls (lv_sub hl [2, 3, 4, 5, 6, 7, 1, 0] rfl) KE57_0
              refine lv_icmp_ne (tgt := 95) hx hb dX16_wordAt_88 (by decide) (fun c18 => ?_) (fun c18 => ?_)
              · have hf := ifF c18 hf
                refine lv_iconst hx hb dX16_wordAt_95 ic_0 ?_
                exact J96 0 hf H locs hP hS ls (lv_sub hl [0, 1, 2, 3, 4, 5, 7] rfl)
              · have hf := ifT c18 hf
                refine lv_iconst hx hb dX16_wordAt_91 ic_1 ?_
                refine lv_goto (tgt := 96) hx hb dX16_wordAt_92 (by decide) ?_
                exact J96 1 hf H locs hP hS ls (lv_sub hl [0, 1, 2, 3, 4, 5, 7] rfl)
        obtain ⟨ex57, hlp57, hf⟩ := bdP hf
        refine LP57 (k9, 0) ex57 hlp57 H locs hP hS ls (lv_sub hl [2, 3, 4, 5, 6, 7, 1, 0] rfl) ?_
        intro y19 hex57 H locs hP hS ls hl
        subst ex57
        refine lv_iload hx hb dX16_wordAt_104 (lv_at hl 6 rfl) ?_
        refine lv_if_eq (tgt := 111) hx hb dX16_wordAt_106 (by decide) (fun c20 => ?_) (fun c20 => ?_)
        · have hf := ifT c20 hf
          refine lv_iload hx hb dX16_wordAt_111 (lv_at hl 4 rfl) ?_
          refine lv_iload hx hb dX16_wordAt_113 (lv_at hl 5 rfl) ?_
          refine lv_iconst hx hb dX16_wordAt_115 ic_1 ?_
          refine lv_iadd hx hb dX16_wordAt_116 ?_
          refine lv_iadd hx hb dX16_wordAt_117 ?_
          obtain ⟨v21, hv21, hf⟩ := bdP hf
          refine nm_i (Option.some.inj hv21) ?_
          refine lv_istore (lv' := [(4, .int v21), (0, .ref (ad 500)), (1, .int x1), (2, .int x2), (3, .int y1), (5, .int y8), (6, .int y19)]) hx hb dX16_wordAt_118 hl (by decide) rfl (fun ls hl => ?_)
          obtain ⟨v22, hv22, hf⟩ := bdP hf
          refine lv_iinc (v := v22) (lv' := [(3, .int v22), (4, .int v21), (0, .ref (ad 500)), (1, .int x1), (2, .int x2), (5, .int y8), (6, .int y19)]) hx hb dX16_wordAt_120 hl (k := 4) rfl (Option.some.inj hv22) (by decide) rfl (fun ls hl => ?_)
          refine lv_goto (tgt := 5) hx hb dX16_wordAt_123 (by decide) ?_
          exact ih5 _ (Option.some.inj hf).symm H locs hP hS ls (lv_sub hl [2, 3, 4, 0, 1] rfl) KE5_0 KE5_1
        · have hf := ifF c20 hf
          exact KE5_0 _ (hx5 _ (Option.some.inj hf).symm).symm H locs hP hS ls (lv_sub hl [3] rfl)
      refine lv_icmp_ne (tgt := 51) hx hb dX16_wordAt_44 (by decide) (fun c23 => ?_) (fun c23 => ?_)
      · have hf := ifF c23 hf
        refine lv_iconst hx hb dX16_wordAt_51 ic_0 ?_
        exact J52 0 hf H locs hP hS ls (lv_sub hl [0, 1, 2, 3, 4, 5] rfl)
      · have hf := ifT c23 hf
        refine lv_iconst hx hb dX16_wordAt_47 ic_1 ?_
        refine lv_goto (tgt := 52) hx hb dX16_wordAt_48 (by decide) ?_
        exact J52 1 hf H locs hP hS ls (lv_sub hl [0, 1, 2, 3, 4, 5] rfl)
  obtain ⟨ex5, hlp5, hf⟩ := bdP hf
  refine LP5 (0, 0) ex5 hlp5 H locs hP hS ls (lv_sub hl [2, 3, 4, 1, 0] rfl) ?_ ?_
  · intro y24 hex5 H locs hP hS ls hl
    subst ex5
    dsimp only [sE_l, sE_r] at hf
    refine lv_iload_n hx hb dX16_wordAt_109 rfl (lv_at hl 0 rfl) ?_
    cases hf
    rw [hQ]; exact p_iret hx hb hr hlk hK hP hS dX16_wordAt_110
  · intro  hex5 H locs hP hS ls hl
    subst ex5
    dsimp only [sE_l, sE_r] at hf
    refine lv_iconst hx hb dX16_wordAt_126 ic_m1 ?_
    cases hf
    rw [hQ]; exact p_iret hx hb hr hlk hK hP hS dX16_wordAt_127
theorem kM_wordAt (l : Launch) (D : va_G) (G : Nat → ClassId) (ad : Nat → Nat) (σ : Sto) {x1 : Int32} {x2 : Int32} {r_ : Int32} (hf : mo_wordAt (σ.2.2.1 600) (σ.2.2.1 603) x1 x2 = some r_) : CtI l D clsA G dscM ad yX16_wordAt (ws_ yX16_wordAt cX16_wordAt 8 (Option.some Jvm.ClassFile.FieldType.int)) rmM_wordAt [.ref (ad 500), .int x1, .int x2] σ r_ σ :=
  p_ctI (by decide +kernel) (Nat.le_of_ble_eq_true rfl) (fun p e s m below meth c0 ls A E hP hK hA hS hl => wkM_wordAt E hK hA hf rfl hP hS hl)
theorem cM_wordAt (E : EN p s m args meth c0 RX16 cc nL ret) (hK : KK D clsA G s) (hP : PM D G ad σ H) (hS : va_S A s.heap H locs) (hA : ∀ q, PA dscM ad s.heap.size q → A q) {x1 : Int32} {x2 : Int32} {r_ : Int32} {a_tape : Nat → Int32} (e_aI600 : σ.2.2.1 600 = a_tape) {a_words : Nat → Int32} (e_aI603 : σ.2.2.1 603 = a_words) (hu : mo_wordAt a_tape a_words x1 x2 = some r_) (hR : rmM_wordAt.frames + 1 ≤ R.frames ∧ 8 + (8 + 11) + rmM_wordAt.locals ≤ R.locals) (hcs : cells ≤ R.cells ∧ slots ≤ R.slots) (hsz : ls.size = nL) (hW : (rest.map fun v => v.category).sum ≤ 8) (hdg : decode cc pc = .ok (.invokevirtual 163, 3)) (kk : ∀ (H1 : Heap) (locs1 : List Loc), PM D G ad σ H1 → va_S A s.heap H1 locs1 → W p l e R s m args below meth c0 H1 locs1 cells slots Q (F0 m (pc + 3) ls (.int r_ :: rest))) : W p l e R s m args below meth c0 H locs cells slots Q (F0 m pc ls (.int x2 :: .int x1 :: .ref (ad 500) :: rest)) := by
  subst e_aI600
  subst e_aI603
  exact p_callI (As := [.int x1, .int x2]) (rest := rest) E.1 hK hP hS hA (kM_wordAt l D G ad σ hu) (cwV 2 E.1.2.2.2.2 (lw_V q1882 q1884 qs56 q142 q1885) rfl rfl rfl (by decide +kernel) hR) dM_500 rfl rfl rfl hsz rfl hW hdg hcs kk
end MWALK
