section MWALK
variable {p : Program} {l : Launch} {e : Env} {R : Room} {s : State} {m : MethodId} {args : Array Value} {below : List Frame} {meth : Method} {c0 : Code} {H : Heap} {locs : List Loc} {cells slots : Nat} {Q : State → Prop}
variable {cc : ByteArray} {nL : Nat} {ret : Option FieldType} {pc : Nat} {ls : Array Slot} {rest : List Value} {D : va_G} {A : Nat → Prop} {G : Nat → ClassId} {ad : Nat → Nat} {σ : Sto}
/-! take()V -/
def sgM_take (σ : Sto) (w0 : Int32) (w1 : Int32) (w2 : Int32) (w3 : Int32) : Sto := zI (zI (zI (zI σ 507 w0) 508 w1) 509 w2) 510 w3
theorem sgM_take_self (σ : Sto) : sgM_take σ (σ.1 507) (σ.1 508) (σ.1 509) (σ.1 510) = σ := by
  unfold sgM_take
  simp only [zI_self, zL_self, aI_self, aL_self]
theorem sgM_take_zI507 {σ : Sto} {w0 : Int32} {w1 : Int32} {w2 : Int32} {w3 : Int32} {g : Int32} : zI (sgM_take σ w0 w1 w2 w3) 507 g = sgM_take σ g w1 w2 w3 := (zI_comm _ (by decide) _ _).trans (congrArg (fun z => zI z 510 w3) ((zI_comm _ (by decide) _ _).trans (congrArg (fun z => zI z 509 w2) ((zI_comm _ (by decide) _ _).trans (congrArg (fun z => zI z 508 w1) (zI_zI _ 507 _ _))))))
theorem sgM_take_zI508 {σ : Sto} {w0 : Int32} {w1 : Int32} {w2 : Int32} {w3 : Int32} {g : Int32} : zI (sgM_take σ w0 w1 w2 w3) 508 g = sgM_take σ w0 g w2 w3 := (zI_comm _ (by decide) _ _).trans (congrArg (fun z => zI z 510 w3) ((zI_comm _ (by decide) _ _).trans (congrArg (fun z => zI z 509 w2) (zI_zI _ 508 _ _))))
theorem sgM_take_zI509 {σ : Sto} {w0 : Int32} {w1 : Int32} {w2 : Int32} {w3 : Int32} {g : Int32} : zI (sgM_take σ w0 w1 w2 w3) 509 g = sgM_take σ w0 w1 g w3 := (zI_comm _ (by decide) _ _).trans (congrArg (fun z => zI z 510 w3) (zI_zI _ 509 _ _))
theorem sgM_take_zI510 {σ : Sto} {w0 : Int32} {w1 : Int32} {w2 : Int32} {w3 : Int32} {g : Int32} : zI (sgM_take σ w0 w1 w2 w3) 510 g = sgM_take σ w0 w1 w2 g := zI_zI _ 510 _ _
theorem sgM_take_rzI506 {σ : Sto} {w0 : Int32} {w1 : Int32} {w2 : Int32} {w3 : Int32} : (sgM_take σ w0 w1 w2 w3).1 506 = σ.1 506 := rfl
theorem sgM_take_rzI507 {σ : Sto} {w0 : Int32} {w1 : Int32} {w2 : Int32} {w3 : Int32} : (sgM_take σ w0 w1 w2 w3).1 507 = w0 := rfl
theorem sgM_take_rzI508 {σ : Sto} {w0 : Int32} {w1 : Int32} {w2 : Int32} {w3 : Int32} : (sgM_take σ w0 w1 w2 w3).1 508 = w1 := rfl
theorem sgM_take_rzI509 {σ : Sto} {w0 : Int32} {w1 : Int32} {w2 : Int32} {w3 : Int32} : (sgM_take σ w0 w1 w2 w3).1 509 = w2 := rfl
theorem sgM_take_rzI510 {σ : Sto} {w0 : Int32} {w1 : Int32} {w2 : Int32} {w3 : Int32} : (sgM_take σ w0 w1 w2 w3).1 510 = w3 := rfl
theorem sgM_take_raI600 {σ : Sto} {w0 : Int32} {w1 : Int32} {w2 : Int32} {w3 : Int32} : (sgM_take σ w0 w1 w2 w3).2.2.1 600 = σ.2.2.1 600 := rfl
theorem sgM_take_raI603 {σ : Sto} {w0 : Int32} {w1 : Int32} {w2 : Int32} {w3 : Int32} : (sgM_take σ w0 w1 w2 w3).2.2.1 603 = σ.2.2.1 603 := rfl
abbrev rmM_take : Room := { frames := 1, cells := 0, slots := 0, locals := 27 }
set_option maxHeartbeats 4000000 in
theorem wkM_take  {w_zI507 : Int32} {w_zI508 : Int32} {w_zI509 : Int32} {w_zI510 : Int32} (E : EN p s m args meth c0 RX16 cX16_take 1 (Option.none : Option Jvm.ClassFile.FieldType)) (hK : KK D clsA G s) (hA : ∀ q, PA dscM ad s.heap.size q → A q) (hf : mo_take (σ.1 506) (σ.1 507) (σ.1 508) (σ.1 509) (σ.1 510) (σ.2.2.1 600) (σ.2.2.1 603) = some (w_zI507, w_zI508, w_zI509, w_zI510)) (hQ : Q = MQ below (va_Qv (fun (_ : Unit) => True) (fun _ t => PM D G ad (sgM_take σ w_zI507 w_zI508 w_zI509 w_zI510) t.heap ∧ KK D clsA G t) A) args s 0 0 A) (hP : PM D G ad σ H) (hS : va_S A s.heap H locs) (hl : lv_has ls 1 [(0, .ref (ad 500))]) : W p l e rmM_take s m args below meth c0 H locs 0 0 Q (F0 m 0 ls []) := by
  obtain ⟨⟨hx, hb, hml, hown, hts⟩, hr, hlk⟩ := id E
  have hP := hP.to (sgM_take_self σ).symm
  unfold mo_take at hf
  have LP0 : ∀ (st0 : Int32) (ex0 : (Int32)), loop (mo_take_L0 (σ.1 506) (σ.2.2.1 600)) st0 = some ex0 → ∀ (H : Heap) (locs : List Loc), PM D G ad (sgM_take σ st0 (σ.1 508) (σ.1 509) (σ.1 510)) H → va_S A s.heap H locs → ∀ (ls : Array Slot), lv_has ls 1 [(0, .ref (ad 500))] → (∀ (z8 : Int32), ex0 = z8 → ∀ (H : Heap) (locs : List Loc), PM D G ad (sgM_take σ z8 (σ.1 508) (σ.1 509) (σ.1 510)) H → va_S A s.heap H locs → ∀ (ls : Array Slot), lv_has ls 1 [(0, .ref (ad 500))] → W p l e rmM_take s m args below meth c0 H locs 0 0 Q (F0 m 52 ls [])) → W p l e rmM_take s m args below meth c0 H locs 0 0 Q (F0 m 0 ls []) := by
    refine loop_P (fun st0 ex0 o0 hf ih0 hx0 => ?_)
    obtain ⟨z1, rfl⟩ : ∃ z, z = st0 := ⟨_, rfl⟩
    intro H locs (hP : PM D G ad (sgM_take σ z1 (σ.1 508) (σ.1 509) (σ.1 510)) H) hS ls (hl : lv_has ls 1 [(0, .ref (ad 500))]) KE0_0
    dsimp only [mo_take_L0] at hf
    refine lv_aload_n hx hb dX16_take_0 rfl (lv_at hl 0 rfl) ?_
    refine gM_7 (v := z1) E hK hP sgM_take_rzI507 dX16_take_1 ?_
    refine lv_aload_n hx hb dX16_take_4 rfl (lv_at hl 0 rfl) ?_
    refine gM_6 (v := (σ.1 506)) E hK hP sgM_take_rzI506 dX16_take_5 ?_
    refine lv_icmp_ge (tgt := 52) hx hb dX16_take_8 (by decide) (fun c2 => ?_) (fun c2 => ?_)
    · have hf := ifT c2 hf
      exact KE0_0 _ (hx0 _ (Option.some.inj hf).symm).symm H locs hP hS ls (lv_sub hl [0] rfl)
    · have hf := ifF c2 hf
      refine lv_aload_n hx hb dX16_take_11 rfl (lv_at hl 0 rfl) ?_
      refine gM_0 E hK hP dX16_take_12 ?_
      refine lv_aload_n hx hb dX16_take_15 rfl (lv_at hl 0 rfl) ?_
      refine gM_7 (v := z1) E hK hP sgM_take_rzI507 dX16_take_16 ?_
      obtain ⟨v3, hv3, hf⟩ := bdP hf
      refine p_iald hx hb hK hP dM_600 sgM_take_raI600 hv3 dX16_take_19 ?_
      refine lv_bipush hx hb dX16_take_20 bp_10 ?_
      have J39 : mo_take_J39 z1 = some o0 → ∀ (H : Heap) (locs : List Loc), PM D G ad (sgM_take σ z1 (σ.1 508) (σ.1 509) (σ.1 510)) H → va_S A s.heap H locs → ∀ (ls : Array Slot), lv_has ls 1 [(0, .ref (ad 500))] → W p l e rmM_take s m args below meth c0 H locs 0 0 Q (F0 m 39 ls []) := by
        intro  hf H locs hP hS ls hl
        unfold mo_take_J39 at hf
        refine lv_aload_n hx hb dX16_take_39 rfl (lv_at hl 0 rfl) ?_
        refine lv_dup hx hb dX16_take_40 rfl ?_
        refine gM_7 (v := z1) E hK hP sgM_take_rzI507 dX16_take_41 ?_
        refine lv_iconst hx hb dX16_take_44 ic_1 ?_
        refine lv_iadd hx hb dX16_take_45 ?_
        obtain ⟨v4, hv4, hf⟩ := bdP hf
        refine nm_i (Option.some.inj hv4) ?_
        refine uM_7 E hK hP hS (hA _ (PA_c dM_500)) sgM_take_zI507 dX16_take_46 (fun H locs hP hS => ?_)
        refine lv_goto (tgt := 0) hx hb dX16_take_49 (by decide) ?_
        exact ih0 _ (Option.some.inj hf).symm H locs hP hS ls (lv_sub hl [0] rfl) KE0_0
      refine lv_icmp_eq (tgt := 39) hx hb dX16_take_22 (by decide) (fun c5 => ?_) (fun c5 => ?_)
      · have hf := ifT c5 hf
        exact J39  hf H locs hP hS ls (lv_sub hl [0] rfl)
      · have hf := ifF c5 hf
        refine lv_aload_n hx hb dX16_take_25 rfl (lv_at hl 0 rfl) ?_
        refine gM_0 E hK hP dX16_take_26 ?_
        refine lv_aload_n hx hb dX16_take_29 rfl (lv_at hl 0 rfl) ?_
        refine gM_7 (v := z1) E hK hP sgM_take_rzI507 dX16_take_30 ?_
        obtain ⟨v6, hv6, hf⟩ := bdP hf
        refine p_iald hx hb hK hP dM_600 sgM_take_raI600 hv6 dX16_take_33 ?_
        refine lv_bipush hx hb dX16_take_34 bp_32 ?_
        refine lv_icmp_ne (tgt := 52) hx hb dX16_take_36 (by decide) (fun c7 => ?_) (fun c7 => ?_)
        · have hf := ifF c7 hf
          exact KE0_0 _ (hx0 _ (Option.some.inj hf).symm).symm H locs hP hS ls (lv_sub hl [0] rfl)
        · have hf := ifT c7 hf
          exact J39  hf H locs hP hS ls (lv_sub hl [0] rfl)
  obtain ⟨ex0, hlp0, hf⟩ := bdP hf
  refine LP0 (σ.1 507) ex0 hlp0 H locs hP hS ls (lv_sub hl [0] rfl) ?_
  intro z8 hex0 H locs hP hS ls hl
  subst ex0
  refine lv_aload_n hx hb dX16_take_52 rfl (lv_at hl 0 rfl) ?_
  refine lv_aload_n hx hb dX16_take_53 rfl (lv_at hl 0 rfl) ?_
  refine gM_7 (v := z8) E hK hP sgM_take_rzI507 dX16_take_54 ?_
  refine uM_10 E hK hP hS (hA _ (PA_c dM_500)) sgM_take_zI510 dX16_take_57 (fun H locs hP hS => ?_)
  refine lv_aload_n hx hb dX16_take_60 rfl (lv_at hl 0 rfl) ?_
  refine gM_7 (v := z8) E hK hP sgM_take_rzI507 dX16_take_61 ?_
  refine lv_aload_n hx hb dX16_take_64 rfl (lv_at hl 0 rfl) ?_
  refine gM_6 (v := (σ.1 506)) E hK hP sgM_take_rzI506 dX16_take_65 ?_
  refine lv_icmp_ne (tgt := 79) hx hb dX16_take_68 (by decide) (fun c9 => ?_) (fun c9 => ?_)
  · have hf := ifF c9 hf
    refine lv_aload_n hx hb dX16_take_79 rfl (lv_at hl 0 rfl) ?_
    refine lv_aload_n hx hb dX16_take_80 rfl (lv_at hl 0 rfl) ?_
    refine gM_7 (v := z8) E hK hP sgM_take_rzI507 dX16_take_81 ?_
    obtain ⟨v10, u11, hf⟩ := bdP hf
    refine cM_isSmall E hK hP hS hA sgM_take_rzI506 sgM_take_raI600 u11 ⟨Nat.le_of_ble_eq_true rfl, Nat.le_of_ble_eq_true rfl⟩ ⟨Nat.zero_le _, Nat.zero_le _⟩ hl.1 (Nat.le_of_ble_eq_true rfl) dX16_take_84 (fun H locs hP hS => ?_)
    refine lv_if_eq (tgt := 191) hx hb dX16_take_87 (by decide) (fun c12 => ?_) (fun c12 => ?_)
    · have hf := ifT c12 hf
      refine lv_aload_n hx hb dX16_take_191 rfl (lv_at hl 0 rfl) ?_
      refine lv_aload_n hx hb dX16_take_192 rfl (lv_at hl 0 rfl) ?_
      refine gM_7 (v := z8) E hK hP sgM_take_rzI507 dX16_take_193 ?_
      obtain ⟨v13, u14, hf⟩ := bdP hf
      refine cM_isDigit E hK hP hS hA sgM_take_rzI506 sgM_take_raI600 u14 ⟨Nat.le_of_ble_eq_true rfl, Nat.le_of_ble_eq_true rfl⟩ ⟨Nat.zero_le _, Nat.zero_le _⟩ hl.1 (Nat.le_of_ble_eq_true rfl) dX16_take_196 (fun H locs hP hS => ?_)
      refine lv_if_eq (tgt := 276) hx hb dX16_take_199 (by decide) (fun c15 => ?_) (fun c15 => ?_)
      · have hf := ifT c15 hf
        refine lv_aload_n hx hb dX16_take_276 rfl (lv_at hl 0 rfl) ?_
        refine lv_aload_n hx hb dX16_take_277 rfl (lv_at hl 0 rfl) ?_
        refine gM_0 E hK hP dX16_take_278 ?_
        refine lv_aload_n hx hb dX16_take_281 rfl (lv_at hl 0 rfl) ?_
        refine gM_7 (v := z8) E hK hP sgM_take_rzI507 dX16_take_282 ?_
        obtain ⟨v16, hv16, hf⟩ := bdP hf
        refine p_iald hx hb hK hP dM_600 sgM_take_raI600 hv16 dX16_take_285 ?_
        refine lv_bipush hx hb dX16_take_286 bp_59 ?_
        have J296 : ∀ (k17 : Int32), mo_take_J296 (σ.1 509) z8 k17 = some (w_zI507, w_zI508, w_zI509, w_zI510) → ∀ (H : Heap) (locs : List Loc), PM D G ad (sgM_take σ z8 (σ.1 508) (σ.1 509) z8) H → va_S A s.heap H locs → ∀ (ls : Array Slot), lv_has ls 1 [(0, .ref (ad 500))] → W p l e rmM_take s m args below meth c0 H locs 0 0 Q (F0 m 296 ls [.int k17, .ref (ad 500)]) := by
          intro k17 hf H locs hP hS ls hl
          unfold mo_take_J296 at hf
          refine uM_8 E hK hP hS (hA _ (PA_c dM_500)) sgM_take_zI508 dX16_take_296 (fun H locs hP hS => ?_)
          refine lv_aload_n hx hb dX16_take_299 rfl (lv_at hl 0 rfl) ?_
          refine lv_dup hx hb dX16_take_300 rfl ?_
          refine gM_7 (v := z8) E hK hP sgM_take_rzI507 dX16_take_301 ?_
          refine lv_iconst hx hb dX16_take_304 ic_1 ?_
          refine lv_iadd hx hb dX16_take_305 ?_
          obtain ⟨v18, hv18, hf⟩ := bdP hf
          refine nm_i (Option.some.inj hv18) ?_
          refine uM_7 E hK hP hS (hA _ (PA_c dM_500)) sgM_take_zI507 dX16_take_306 (fun H locs hP hS => ?_)
          cases hf
          rw [hQ]; exact p_vret hx hb hr hlk hK hP hS dX16_take_309
        refine lv_icmp_ne (tgt := 295) hx hb dX16_take_288 (by decide) (fun c19 => ?_) (fun c19 => ?_)
        · have hf := ifF c19 hf
          refine lv_iconst hx hb dX16_take_295 ic_5 ?_
          exact J296 5 hf H locs hP hS ls (lv_sub hl [0] rfl)
        · have hf := ifT c19 hf
          refine lv_iconst hx hb dX16_take_291 ic_4 ?_
          refine lv_goto (tgt := 296) hx hb dX16_take_292 (by decide) ?_
          exact J296 4 hf H locs hP hS ls (lv_sub hl [0] rfl)
      · have hf := ifF c15 hf
        refine lv_aload_n hx hb dX16_take_202 rfl (lv_at hl 0 rfl) ?_
        refine lv_iconst hx hb dX16_take_203 ic_3 ?_
        refine uM_8 E hK hP hS (hA _ (PA_c dM_500)) sgM_take_zI508 dX16_take_204 (fun H locs hP hS => ?_)
        refine lv_aload_n hx hb dX16_take_207 rfl (lv_at hl 0 rfl) ?_
        refine lv_iconst hx hb dX16_take_208 ic_0 ?_
        refine uM_9 E hK hP hS (hA _ (PA_c dM_500)) sgM_take_zI509 dX16_take_209 (fun H locs hP hS => ?_)
        have LP212 : ∀ (st212 : Int32 × Int32) (ex212 : (Int32 × Int32)), loop (mo_take_L212 (σ.1 506) (σ.2.2.1 600)) st212 = some ex212 → ∀ (H : Heap) (locs : List Loc), PM D G ad (sgM_take σ (st212.1) 3 (st212.2) z8) H → va_S A s.heap H locs → ∀ (ls : Array Slot), lv_has ls 1 [(0, .ref (ad 500))] → (∀ (z29 : Int32) (z30 : Int32), ex212 = (z29, z30) → ∀ (H : Heap) (locs : List Loc), PM D G ad (sgM_take σ z29 3 z30 z8) H → va_S A s.heap H locs → ∀ (ls : Array Slot), lv_has ls 1 [] → W p l e rmM_take s m args below meth c0 H locs 0 0 Q (F0 m 309 ls [])) → W p l e rmM_take s m args below meth c0 H locs 0 0 Q (F0 m 212 ls []) := by
          refine loop_P (fun st212 ex212 o212 hf ih212 hx212 => ?_)
          obtain ⟨z20, z21⟩ := st212
          intro H locs (hP : PM D G ad (sgM_take σ z20 3 z21 z8) H) hS ls (hl : lv_has ls 1 [(0, .ref (ad 500))]) KE212_0
          dsimp only [mo_take_L212] at hf
          refine lv_aload_n hx hb dX16_take_212 rfl (lv_at hl 0 rfl) ?_
          refine lv_aload_n hx hb dX16_take_213 rfl (lv_at hl 0 rfl) ?_
          refine gM_7 (v := z20) E hK hP sgM_take_rzI507 dX16_take_214 ?_
          obtain ⟨v22, u23, hf⟩ := bdP hf
          refine cM_isDigit E hK hP hS hA sgM_take_rzI506 sgM_take_raI600 u23 ⟨Nat.le_of_ble_eq_true rfl, Nat.le_of_ble_eq_true rfl⟩ ⟨Nat.zero_le _, Nat.zero_le _⟩ hl.1 (Nat.le_of_ble_eq_true rfl) dX16_take_217 (fun H locs hP hS => ?_)
          refine lv_if_eq (tgt := 309) hx hb dX16_take_220 (by decide) (fun c24 => ?_) (fun c24 => ?_)
          · have hf := ifT c24 hf
            exact KE212_0 _ _ (hx212 _ (Option.some.inj hf).symm).symm H locs hP hS ls (lv_sub hl [] rfl)
          · have hf := ifF c24 hf
            refine lv_aload_n hx hb dX16_take_223 rfl (lv_at hl 0 rfl) ?_
            refine lv_aload_n hx hb dX16_take_224 rfl (lv_at hl 0 rfl) ?_
            refine gM_9 (v := z21) E hK hP sgM_take_rzI509 dX16_take_225 ?_
            refine lv_bipush hx hb dX16_take_228 bp_99 ?_
            have J260 : ∀ (k25 : Int32), mo_take_J260 z20 k25 = some o212 → ∀ (H : Heap) (locs : List Loc), PM D G ad (sgM_take σ z20 3 z21 z8) H → va_S A s.heap H locs → ∀ (ls : Array Slot), lv_has ls 1 [(0, .ref (ad 500))] → W p l e rmM_take s m args below meth c0 H locs 0 0 Q (F0 m 260 ls [.int k25, .ref (ad 500)]) := by
              intro k25 hf H locs hP hS ls hl
              unfold mo_take_J260 at hf
              refine uM_9 E hK hP hS (hA _ (PA_c dM_500)) sgM_take_zI509 dX16_take_260 (fun H locs hP hS => ?_)
              refine lv_aload_n hx hb dX16_take_263 rfl (lv_at hl 0 rfl) ?_
              refine lv_dup hx hb dX16_take_264 rfl ?_
              refine gM_7 (v := z20) E hK hP sgM_take_rzI507 dX16_take_265 ?_
              refine lv_iconst hx hb dX16_take_268 ic_1 ?_
              refine lv_iadd hx hb dX16_take_269 ?_
              obtain ⟨v26, hv26, hf⟩ := bdP hf
              refine nm_i (Option.some.inj hv26) ?_
              refine uM_7 E hK hP hS (hA _ (PA_c dM_500)) sgM_take_zI507 dX16_take_270 (fun H locs hP hS => ?_)
              refine lv_goto (tgt := 212) hx hb dX16_take_273 (by decide) ?_
              exact ih212 _ (Option.some.inj hf).symm H locs hP hS ls (lv_sub hl [0] rfl) KE212_0
            refine lv_icmp_le (tgt := 240) hx hb dX16_take_230 (by decide) (fun c27 => ?_) (fun c27 => ?_)
            · have hf := ifT c27 hf
              refine lv_bipush hx hb dX16_take_240 bp_10 ?_
              refine lv_aload_n hx hb dX16_take_242 rfl (lv_at hl 0 rfl) ?_
              refine gM_9 (v := z21) E hK hP sgM_take_rzI509 dX16_take_243 ?_
              refine lv_imul hx hb dX16_take_246 ?_
              refine lv_aload_n hx hb dX16_take_247 rfl (lv_at hl 0 rfl) ?_
              refine gM_0 E hK hP dX16_take_248 ?_
              refine lv_aload_n hx hb dX16_take_251 rfl (lv_at hl 0 rfl) ?_
              refine gM_7 (v := z20) E hK hP sgM_take_rzI507 dX16_take_252 ?_
              obtain ⟨v28, hv28, hf⟩ := bdP hf
              refine p_iald hx hb hK hP dM_600 sgM_take_raI600 hv28 dX16_take_255 ?_
              refine lv_iadd hx hb dX16_take_256 ?_
              refine lv_bipush hx hb dX16_take_257 bp_48 ?_
              refine lv_isub hx hb dX16_take_259 ?_
              exact J260 (((10 * z21) + v28) - 48) hf H locs hP hS ls (lv_sub hl [0] rfl)
            · have hf := ifF c27 hf
              refine lv_aload_n hx hb dX16_take_233 rfl (lv_at hl 0 rfl) ?_
              refine gM_9 (v := z21) E hK hP sgM_take_rzI509 dX16_take_234 ?_
              refine lv_goto (tgt := 260) hx hb dX16_take_237 (by decide) ?_
              exact J260 z21 hf H locs hP hS ls (lv_sub hl [0] rfl)
        obtain ⟨ex212, hlp212, hf⟩ := bdP hf
        refine LP212 (z8, 0) ex212 hlp212 H locs hP hS ls (lv_sub hl [0] rfl) ?_
        intro z29 z30 hex212 H locs hP hS ls hl
        subst ex212
        dsimp only at hf
        cases hf
        rw [hQ]; exact p_vret hx hb hr hlk hK hP hS dX16_take_309
    · have hf := ifF c12 hf
      have LP90 : ∀ (st90 : Int32) (ex90 : (Int32)), loop (mo_take_L90 (σ.1 506) (σ.2.2.1 600)) st90 = some ex90 → ∀ (H : Heap) (locs : List Loc), PM D G ad (sgM_take σ st90 (σ.1 508) (σ.1 509) z8) H → va_S A s.heap H locs → ∀ (ls : Array Slot), lv_has ls 1 [(0, .ref (ad 500))] → (∀ (z36 : Int32), ex90 = z36 → ∀ (H : Heap) (locs : List Loc), PM D G ad (sgM_take σ z36 (σ.1 508) (σ.1 509) z8) H → va_S A s.heap H locs → ∀ (ls : Array Slot), lv_has ls 1 [(0, .ref (ad 500))] → W p l e rmM_take s m args below meth c0 H locs 0 0 Q (F0 m 114 ls [])) → W p l e rmM_take s m args below meth c0 H locs 0 0 Q (F0 m 90 ls []) := by
        refine loop_P (fun st90 ex90 o90 hf ih90 hx90 => ?_)
        obtain ⟨z31, rfl⟩ : ∃ z, z = st90 := ⟨_, rfl⟩
        intro H locs (hP : PM D G ad (sgM_take σ z31 (σ.1 508) (σ.1 509) z8) H) hS ls (hl : lv_has ls 1 [(0, .ref (ad 500))]) KE90_0
        dsimp only [mo_take_L90] at hf
        refine lv_aload_n hx hb dX16_take_90 rfl (lv_at hl 0 rfl) ?_
        refine lv_aload_n hx hb dX16_take_91 rfl (lv_at hl 0 rfl) ?_
        refine gM_7 (v := z31) E hK hP sgM_take_rzI507 dX16_take_92 ?_
        obtain ⟨v32, u33, hf⟩ := bdP hf
        refine cM_isSmall E hK hP hS hA sgM_take_rzI506 sgM_take_raI600 u33 ⟨Nat.le_of_ble_eq_true rfl, Nat.le_of_ble_eq_true rfl⟩ ⟨Nat.zero_le _, Nat.zero_le _⟩ hl.1 (Nat.le_of_ble_eq_true rfl) dX16_take_95 (fun H locs hP hS => ?_)
        refine lv_if_eq (tgt := 114) hx hb dX16_take_98 (by decide) (fun c34 => ?_) (fun c34 => ?_)
        · have hf := ifT c34 hf
          exact KE90_0 _ (hx90 _ (Option.some.inj hf).symm).symm H locs hP hS ls (lv_sub hl [0] rfl)
        · have hf := ifF c34 hf
          refine lv_aload_n hx hb dX16_take_101 rfl (lv_at hl 0 rfl) ?_
          refine lv_dup hx hb dX16_take_102 rfl ?_
          refine gM_7 (v := z31) E hK hP sgM_take_rzI507 dX16_take_103 ?_
          refine lv_iconst hx hb dX16_take_106 ic_1 ?_
          refine lv_iadd hx hb dX16_take_107 ?_
          obtain ⟨v35, hv35, hf⟩ := bdP hf
          refine nm_i (Option.some.inj hv35) ?_
          refine uM_7 E hK hP hS (hA _ (PA_c dM_500)) sgM_take_zI507 dX16_take_108 (fun H locs hP hS => ?_)
          refine lv_goto (tgt := 90) hx hb dX16_take_111 (by decide) ?_
          exact ih90 _ (Option.some.inj hf).symm H locs hP hS ls (lv_sub hl [0] rfl) KE90_0
      obtain ⟨ex90, hlp90, hf⟩ := bdP hf
      refine LP90 z8 ex90 hlp90 H locs hP hS ls (lv_sub hl [0] rfl) ?_
      intro z36 hex90 H locs hP hS ls hl
      subst ex90
      refine lv_aload_n hx hb dX16_take_114 rfl (lv_at hl 0 rfl) ?_
      refine lv_aload_n hx hb dX16_take_115 rfl (lv_at hl 0 rfl) ?_
      refine lv_aload_n hx hb dX16_take_116 rfl (lv_at hl 0 rfl) ?_
      refine gM_10 (v := z8) E hK hP sgM_take_rzI510 dX16_take_117 ?_
      refine lv_aload_n hx hb dX16_take_120 rfl (lv_at hl 0 rfl) ?_
      refine gM_7 (v := z36) E hK hP sgM_take_rzI507 dX16_take_121 ?_
      obtain ⟨v37, u38, hf⟩ := bdP hf
      refine cM_wordAt E hK hP hS hA sgM_take_raI600 sgM_take_raI603 u38 ⟨Nat.le_of_ble_eq_true rfl, Nat.le_of_ble_eq_true rfl⟩ ⟨Nat.zero_le _, Nat.zero_le _⟩ hl.1 (Nat.le_of_ble_eq_true rfl) dX16_take_124 (fun H locs hP hS => ?_)
      refine uM_9 E hK hP hS (hA _ (PA_c dM_500)) sgM_take_zI509 dX16_take_127 (fun H locs hP hS => ?_)
      refine lv_aload_n hx hb dX16_take_130 rfl (lv_at hl 0 rfl) ?_
      refine lv_aload_n hx hb dX16_take_131 rfl (lv_at hl 0 rfl) ?_
      refine gM_9 (v := v37) E hK hP sgM_take_rzI509 dX16_take_132 ?_
      have J161 : ∀ (k39 : Int32), mo_take_J161 (σ.2.2.1 600) z8 z36 v37 k39 = some (w_zI507, w_zI508, w_zI509, w_zI510) → ∀ (H : Heap) (locs : List Loc), PM D G ad (sgM_take σ z36 (σ.1 508) v37 z8) H → va_S A s.heap H locs → ∀ (ls : Array Slot), lv_has ls 1 [(0, .ref (ad 500))] → W p l e rmM_take s m args below meth c0 H locs 0 0 Q (F0 m 161 ls [.int k39, .ref (ad 500)]) := by
        intro k39 hf H locs hP hS ls hl
        unfold mo_take_J161 at hf
        refine uM_8 E hK hP hS (hA _ (PA_c dM_500)) sgM_take_zI508 dX16_take_161 (fun H locs hP hS => ?_)
        refine lv_aload_n hx hb dX16_take_164 rfl (lv_at hl 0 rfl) ?_
        refine gM_8 (v := k39) E hK hP sgM_take_rzI508 dX16_take_165 ?_
        refine lv_iconst hx hb dX16_take_168 ic_2 ?_
        refine lv_icmp_ne (tgt := 309) hx hb dX16_take_169 (by decide) (fun c40 => ?_) (fun c40 => ?_)
        · have hf := ifF c40 hf
          cases hf
          rw [hQ]; exact p_vret hx hb hr hlk hK hP hS dX16_take_309
        · have hf := ifT c40 hf
          refine lv_aload_n hx hb dX16_take_172 rfl (lv_at hl 0 rfl) ?_
          refine lv_aload_n hx hb dX16_take_173 rfl (lv_at hl 0 rfl) ?_
          refine lv_aload_n hx hb dX16_take_174 rfl (lv_at hl 0 rfl) ?_
          refine gM_10 (v := z8) E hK hP sgM_take_rzI510 dX16_take_175 ?_
          refine lv_aload_n hx hb dX16_take_178 rfl (lv_at hl 0 rfl) ?_
          refine gM_7 (v := z36) E hK hP sgM_take_rzI507 dX16_take_179 ?_
          obtain ⟨v41, u42, hf⟩ := bdP hf
          refine cM_packed E hK hP hS hA sgM_take_raI600 u42 ⟨Nat.le_of_ble_eq_true rfl, Nat.le_of_ble_eq_true rfl⟩ ⟨Nat.zero_le _, Nat.zero_le _⟩ hl.1 (Nat.le_of_ble_eq_true rfl) dX16_take_182 (fun H locs hP hS => ?_)
          refine uM_9 E hK hP hS (hA _ (PA_c dM_500)) sgM_take_zI509 dX16_take_185 (fun H locs hP hS => ?_)
          refine lv_goto (tgt := 309) hx hb dX16_take_188 (by decide) ?_
          cases hf
          rw [hQ]; exact p_vret hx hb hr hlk hK hP hS dX16_take_309
      refine lv_if_lt (tgt := 142) hx hb dX16_take_135 (by decide) (fun c43 => ?_) (fun c43 => ?_)
      · have hf := ifT c43 hf
        refine lv_aload_n hx hb dX16_take_142 rfl (lv_at hl 0 rfl) ?_
        refine gM_7 (v := z36) E hK hP sgM_take_rzI507 dX16_take_143 ?_
        refine lv_aload_n hx hb dX16_take_146 rfl (lv_at hl 0 rfl) ?_
        refine gM_10 (v := z8) E hK hP sgM_take_rzI510 dX16_take_147 ?_
        refine lv_isub hx hb dX16_take_150 ?_
        refine lv_bipush hx hb dX16_take_151 bp_6 ?_
        refine lv_icmp_le (tgt := 160) hx hb dX16_take_153 (by decide) (fun c44 => ?_) (fun c44 => ?_)
        · have hf := ifT c44 hf
          refine lv_iconst hx hb dX16_take_160 ic_2 ?_
          exact J161 2 hf H locs hP hS ls (lv_sub hl [0] rfl)
        · have hf := ifF c44 hf
          refine lv_iconst hx hb dX16_take_156 ic_5 ?_
          refine lv_goto (tgt := 161) hx hb dX16_take_157 (by decide) ?_
          exact J161 5 hf H locs hP hS ls (lv_sub hl [0] rfl)
      · have hf := ifF c43 hf
        refine lv_iconst hx hb dX16_take_138 ic_1 ?_
        refine lv_goto (tgt := 161) hx hb dX16_take_139 (by decide) ?_
        exact J161 1 hf H locs hP hS ls (lv_sub hl [0] rfl)
  · have hf := ifT c9 hf
    refine lv_aload_n hx hb dX16_take_71 rfl (lv_at hl 0 rfl) ?_
    refine lv_iconst hx hb dX16_take_72 ic_0 ?_
    refine uM_8 E hK hP hS (hA _ (PA_c dM_500)) sgM_take_zI508 dX16_take_73 (fun H locs hP hS => ?_)
    refine lv_goto (tgt := 309) hx hb dX16_take_76 (by decide) ?_
    cases hf
    rw [hQ]; exact p_vret hx hb hr hlk hK hP hS dX16_take_309
theorem kM_take (l : Launch) (D : va_G) (G : Nat → ClassId) (ad : Nat → Nat) (σ : Sto) {w_zI507 : Int32} {w_zI508 : Int32} {w_zI509 : Int32} {w_zI510 : Int32} (hf : mo_take (σ.1 506) (σ.1 507) (σ.1 508) (σ.1 509) (σ.1 510) (σ.2.2.1 600) (σ.2.2.1 603) = some (w_zI507, w_zI508, w_zI509, w_zI510)) : CtV l D clsA G dscM ad yX16_take (ws_ yX16_take cX16_take 1 (Option.none : Option Jvm.ClassFile.FieldType)) rmM_take [.ref (ad 500)] σ (sgM_take σ w_zI507 w_zI508 w_zI509 w_zI510) :=
  p_ctV (by decide +kernel) (Nat.le_of_ble_eq_true rfl) (fun p e s m below meth c0 ls A E hP hK hA hS hl => wkM_take E hK hA hf rfl hP hS hl)
theorem cM_take (E : EN p s m args meth c0 RX16 cc nL ret) (hK : KK D clsA G s) (hP : PM D G ad σ H) (hS : va_S A s.heap H locs) (hA : ∀ q, PA dscM ad s.heap.size q → A q) {w_zI507 : Int32} {w_zI508 : Int32} {w_zI509 : Int32} {w_zI510 : Int32} {z_stop : Int32} (e_zI506 : σ.1 506 = z_stop) {z_next : Int32} (e_zI507 : σ.1 507 = z_next) {z_kind : Int32} (e_zI508 : σ.1 508 = z_kind) {z_which : Int32} (e_zI509 : σ.1 509 = z_which) {z_at : Int32} (e_zI510 : σ.1 510 = z_at) {a_tape : Nat → Int32} (e_aI600 : σ.2.2.1 600 = a_tape) {a_words : Nat → Int32} (e_aI603 : σ.2.2.1 603 = a_words) (hu : mo_take z_stop z_next z_kind z_which z_at a_tape a_words = some (w_zI507, w_zI508, w_zI509, w_zI510)) (hR : rmM_take.frames + 1 ≤ R.frames ∧ 8 + (1 + 11) + rmM_take.locals ≤ R.locals) (hcs : cells ≤ R.cells ∧ slots ≤ R.slots) (hsz : ls.size = nL) (hW : (rest.map fun v => v.category).sum ≤ 8) (hdg : decode cc pc = .ok (.invokevirtual 186, 3)) (kk : ∀ (H1 : Heap) (locs1 : List Loc), PM D G ad (zI (zI (zI (zI σ 507 w_zI507) 508 w_zI508) 509 w_zI509) 510 w_zI510) H1 → va_S A s.heap H1 locs1 → W p l e R s m args below meth c0 H1 locs1 cells slots Q (F0 m (pc + 3) ls rest)) : W p l e R s m args below meth c0 H locs cells slots Q (F0 m pc ls (.ref (ad 500) :: rest)) := by
  subst e_zI506
  subst e_zI507
  subst e_zI508
  subst e_zI509
  subst e_zI510
  subst e_aI600
  subst e_aI603
  exact p_callV (As := []) (rest := rest) E.1 hK hP hS hA (kM_take l D G ad σ hu) (cwV 0 E.1.2.2.2.2 (lw_V q1874 q1876 qs54 q142 q1877) rfl rfl rfl (by decide +kernel) hR) dM_500 rfl rfl rfl hsz rfl hW hdg hcs kk
/-! causeRead()Z -/
def sgM_causeRead (σ : Sto) (w0 : Int32) (w1 : Int32) (w2 : Int32) (w3 : Int32) (w4 : Int32) (w5 : Int32) (w6 : Nat → Int32) (w7 : Nat → Int32) (w8 : Nat → Int32) : Sto := aI (aI (aI (zI (zI (zI (zI (zI (zI σ 504 w0) 505 w1) 507 w2) 508 w3) 509 w4) 510 w5) 611 w6) 613 w7) 614 w8
theorem sgM_causeRead_self (σ : Sto) : sgM_causeRead σ (σ.1 504) (σ.1 505) (σ.1 507) (σ.1 508) (σ.1 509) (σ.1 510) (σ.2.2.1 611) (σ.2.2.1 613) (σ.2.2.1 614) = σ := by
  unfold sgM_causeRead
  simp only [zI_self, zL_self, aI_self, aL_self]
theorem sgM_causeRead_zI504 {σ : Sto} {w0 : Int32} {w1 : Int32} {w2 : Int32} {w3 : Int32} {w4 : Int32} {w5 : Int32} {w6 : Nat → Int32} {w7 : Nat → Int32} {w8 : Nat → Int32} {g : Int32} : zI (sgM_causeRead σ w0 w1 w2 w3 w4 w5 w6 w7 w8) 504 g = sgM_causeRead σ g w1 w2 w3 w4 w5 w6 w7 w8 := (cm_zI_aI _ _ _ _ _).trans (congrArg (fun z => aI z 614 w8) ((cm_zI_aI _ _ _ _ _).trans (congrArg (fun z => aI z 613 w7) ((cm_zI_aI _ _ _ _ _).trans (congrArg (fun z => aI z 611 w6) ((zI_comm _ (by decide) _ _).trans (congrArg (fun z => zI z 510 w5) ((zI_comm _ (by decide) _ _).trans (congrArg (fun z => zI z 509 w4) ((zI_comm _ (by decide) _ _).trans (congrArg (fun z => zI z 508 w3) ((zI_comm _ (by decide) _ _).trans (congrArg (fun z => zI z 507 w2) ((zI_comm _ (by decide) _ _).trans (congrArg (fun z => zI z 505 w1) (zI_zI _ 504 _ _))))))))))))))))
theorem sgM_causeRead_zI505 {σ : Sto} {w0 : Int32} {w1 : Int32} {w2 : Int32} {w3 : Int32} {w4 : Int32} {w5 : Int32} {w6 : Nat → Int32} {w7 : Nat → Int32} {w8 : Nat → Int32} {g : Int32} : zI (sgM_causeRead σ w0 w1 w2 w3 w4 w5 w6 w7 w8) 505 g = sgM_causeRead σ w0 g w2 w3 w4 w5 w6 w7 w8 := (cm_zI_aI _ _ _ _ _).trans (congrArg (fun z => aI z 614 w8) ((cm_zI_aI _ _ _ _ _).trans (congrArg (fun z => aI z 613 w7) ((cm_zI_aI _ _ _ _ _).trans (congrArg (fun z => aI z 611 w6) ((zI_comm _ (by decide) _ _).trans (congrArg (fun z => zI z 510 w5) ((zI_comm _ (by decide) _ _).trans (congrArg (fun z => zI z 509 w4) ((zI_comm _ (by decide) _ _).trans (congrArg (fun z => zI z 508 w3) ((zI_comm _ (by decide) _ _).trans (congrArg (fun z => zI z 507 w2) (zI_zI _ 505 _ _))))))))))))))
theorem sgM_causeRead_zI507 {σ : Sto} {w0 : Int32} {w1 : Int32} {w2 : Int32} {w3 : Int32} {w4 : Int32} {w5 : Int32} {w6 : Nat → Int32} {w7 : Nat → Int32} {w8 : Nat → Int32} {g : Int32} : zI (sgM_causeRead σ w0 w1 w2 w3 w4 w5 w6 w7 w8) 507 g = sgM_causeRead σ w0 w1 g w3 w4 w5 w6 w7 w8 := (cm_zI_aI _ _ _ _ _).trans (congrArg (fun z => aI z 614 w8) ((cm_zI_aI _ _ _ _ _).trans (congrArg (fun z => aI z 613 w7) ((cm_zI_aI _ _ _ _ _).trans (congrArg (fun z => aI z 611 w6) ((zI_comm _ (by decide) _ _).trans (congrArg (fun z => zI z 510 w5) ((zI_comm _ (by decide) _ _).trans (congrArg (fun z => zI z 509 w4) ((zI_comm _ (by decide) _ _).trans (congrArg (fun z => zI z 508 w3) (zI_zI _ 507 _ _))))))))))))
theorem sgM_causeRead_zI508 {σ : Sto} {w0 : Int32} {w1 : Int32} {w2 : Int32} {w3 : Int32} {w4 : Int32} {w5 : Int32} {w6 : Nat → Int32} {w7 : Nat → Int32} {w8 : Nat → Int32} {g : Int32} : zI (sgM_causeRead σ w0 w1 w2 w3 w4 w5 w6 w7 w8) 508 g = sgM_causeRead σ w0 w1 w2 g w4 w5 w6 w7 w8 := (cm_zI_aI _ _ _ _ _).trans (congrArg (fun z => aI z 614 w8) ((cm_zI_aI _ _ _ _ _).trans (congrArg (fun z => aI z 613 w7) ((cm_zI_aI _ _ _ _ _).trans (congrArg (fun z => aI z 611 w6) ((zI_comm _ (by decide) _ _).trans (congrArg (fun z => zI z 510 w5) ((zI_comm _ (by decide) _ _).trans (congrArg (fun z => zI z 509 w4) (zI_zI _ 508 _ _))))))))))
theorem sgM_causeRead_zI509 {σ : Sto} {w0 : Int32} {w1 : Int32} {w2 : Int32} {w3 : Int32} {w4 : Int32} {w5 : Int32} {w6 : Nat → Int32} {w7 : Nat → Int32} {w8 : Nat → Int32} {g : Int32} : zI (sgM_causeRead σ w0 w1 w2 w3 w4 w5 w6 w7 w8) 509 g = sgM_causeRead σ w0 w1 w2 w3 g w5 w6 w7 w8 := (cm_zI_aI _ _ _ _ _).trans (congrArg (fun z => aI z 614 w8) ((cm_zI_aI _ _ _ _ _).trans (congrArg (fun z => aI z 613 w7) ((cm_zI_aI _ _ _ _ _).trans (congrArg (fun z => aI z 611 w6) ((zI_comm _ (by decide) _ _).trans (congrArg (fun z => zI z 510 w5) (zI_zI _ 509 _ _))))))))
theorem sgM_causeRead_zI510 {σ : Sto} {w0 : Int32} {w1 : Int32} {w2 : Int32} {w3 : Int32} {w4 : Int32} {w5 : Int32} {w6 : Nat → Int32} {w7 : Nat → Int32} {w8 : Nat → Int32} {g : Int32} : zI (sgM_causeRead σ w0 w1 w2 w3 w4 w5 w6 w7 w8) 510 g = sgM_causeRead σ w0 w1 w2 w3 w4 g w6 w7 w8 := (cm_zI_aI _ _ _ _ _).trans (congrArg (fun z => aI z 614 w8) ((cm_zI_aI _ _ _ _ _).trans (congrArg (fun z => aI z 613 w7) ((cm_zI_aI _ _ _ _ _).trans (congrArg (fun z => aI z 611 w6) (zI_zI _ 510 _ _))))))
theorem sgM_causeRead_aI611 {σ : Sto} {w0 : Int32} {w1 : Int32} {w2 : Int32} {w3 : Int32} {w4 : Int32} {w5 : Int32} {w6 : Nat → Int32} {w7 : Nat → Int32} {w8 : Nat → Int32} {g : Nat → Int32} : aI (sgM_causeRead σ w0 w1 w2 w3 w4 w5 w6 w7 w8) 611 g = sgM_causeRead σ w0 w1 w2 w3 w4 w5 g w7 w8 := (aI_comm _ (by decide) _ _).trans (congrArg (fun z => aI z 614 w8) ((aI_comm _ (by decide) _ _).trans (congrArg (fun z => aI z 613 w7) (aI_aI _ 611 _ _))))
theorem sgM_causeRead_aI613 {σ : Sto} {w0 : Int32} {w1 : Int32} {w2 : Int32} {w3 : Int32} {w4 : Int32} {w5 : Int32} {w6 : Nat → Int32} {w7 : Nat → Int32} {w8 : Nat → Int32} {g : Nat → Int32} : aI (sgM_causeRead σ w0 w1 w2 w3 w4 w5 w6 w7 w8) 613 g = sgM_causeRead σ w0 w1 w2 w3 w4 w5 w6 g w8 := (aI_comm _ (by decide) _ _).trans (congrArg (fun z => aI z 614 w8) (aI_aI _ 613 _ _))
theorem sgM_causeRead_aI614 {σ : Sto} {w0 : Int32} {w1 : Int32} {w2 : Int32} {w3 : Int32} {w4 : Int32} {w5 : Int32} {w6 : Nat → Int32} {w7 : Nat → Int32} {w8 : Nat → Int32} {g : Nat → Int32} : aI (sgM_causeRead σ w0 w1 w2 w3 w4 w5 w6 w7 w8) 614 g = sgM_causeRead σ w0 w1 w2 w3 w4 w5 w6 w7 g := aI_aI _ 614 _ _
theorem sgM_causeRead_rzI504 {σ : Sto} {w0 : Int32} {w1 : Int32} {w2 : Int32} {w3 : Int32} {w4 : Int32} {w5 : Int32} {w6 : Nat → Int32} {w7 : Nat → Int32} {w8 : Nat → Int32} : (sgM_causeRead σ w0 w1 w2 w3 w4 w5 w6 w7 w8).1 504 = w0 := rfl
theorem sgM_causeRead_rzI505 {σ : Sto} {w0 : Int32} {w1 : Int32} {w2 : Int32} {w3 : Int32} {w4 : Int32} {w5 : Int32} {w6 : Nat → Int32} {w7 : Nat → Int32} {w8 : Nat → Int32} : (sgM_causeRead σ w0 w1 w2 w3 w4 w5 w6 w7 w8).1 505 = w1 := rfl
theorem sgM_causeRead_rzI506 {σ : Sto} {w0 : Int32} {w1 : Int32} {w2 : Int32} {w3 : Int32} {w4 : Int32} {w5 : Int32} {w6 : Nat → Int32} {w7 : Nat → Int32} {w8 : Nat → Int32} : (sgM_causeRead σ w0 w1 w2 w3 w4 w5 w6 w7 w8).1 506 = σ.1 506 := rfl
theorem sgM_causeRead_rzI507 {σ : Sto} {w0 : Int32} {w1 : Int32} {w2 : Int32} {w3 : Int32} {w4 : Int32} {w5 : Int32} {w6 : Nat → Int32} {w7 : Nat → Int32} {w8 : Nat → Int32} : (sgM_causeRead σ w0 w1 w2 w3 w4 w5 w6 w7 w8).1 507 = w2 := rfl
theorem sgM_causeRead_rzI508 {σ : Sto} {w0 : Int32} {w1 : Int32} {w2 : Int32} {w3 : Int32} {w4 : Int32} {w5 : Int32} {w6 : Nat → Int32} {w7 : Nat → Int32} {w8 : Nat → Int32} : (sgM_causeRead σ w0 w1 w2 w3 w4 w5 w6 w7 w8).1 508 = w3 := rfl
theorem sgM_causeRead_rzI509 {σ : Sto} {w0 : Int32} {w1 : Int32} {w2 : Int32} {w3 : Int32} {w4 : Int32} {w5 : Int32} {w6 : Nat → Int32} {w7 : Nat → Int32} {w8 : Nat → Int32} : (sgM_causeRead σ w0 w1 w2 w3 w4 w5 w6 w7 w8).1 509 = w4 := rfl
theorem sgM_causeRead_rzI510 {σ : Sto} {w0 : Int32} {w1 : Int32} {w2 : Int32} {w3 : Int32} {w4 : Int32} {w5 : Int32} {w6 : Nat → Int32} {w7 : Nat → Int32} {w8 : Nat → Int32} : (sgM_causeRead σ w0 w1 w2 w3 w4 w5 w6 w7 w8).1 510 = w5 := rfl
theorem sgM_causeRead_raI600 {σ : Sto} {w0 : Int32} {w1 : Int32} {w2 : Int32} {w3 : Int32} {w4 : Int32} {w5 : Int32} {w6 : Nat → Int32} {w7 : Nat → Int32} {w8 : Nat → Int32} : (sgM_causeRead σ w0 w1 w2 w3 w4 w5 w6 w7 w8).2.2.1 600 = σ.2.2.1 600 := rfl
theorem sgM_causeRead_raI603 {σ : Sto} {w0 : Int32} {w1 : Int32} {w2 : Int32} {w3 : Int32} {w4 : Int32} {w5 : Int32} {w6 : Nat → Int32} {w7 : Nat → Int32} {w8 : Nat → Int32} : (sgM_causeRead σ w0 w1 w2 w3 w4 w5 w6 w7 w8).2.2.1 603 = σ.2.2.1 603 := rfl
theorem sgM_causeRead_raI611 {σ : Sto} {w0 : Int32} {w1 : Int32} {w2 : Int32} {w3 : Int32} {w4 : Int32} {w5 : Int32} {w6 : Nat → Int32} {w7 : Nat → Int32} {w8 : Nat → Int32} : (sgM_causeRead σ w0 w1 w2 w3 w4 w5 w6 w7 w8).2.2.1 611 = w6 := rfl
theorem sgM_causeRead_raI613 {σ : Sto} {w0 : Int32} {w1 : Int32} {w2 : Int32} {w3 : Int32} {w4 : Int32} {w5 : Int32} {w6 : Nat → Int32} {w7 : Nat → Int32} {w8 : Nat → Int32} : (sgM_causeRead σ w0 w1 w2 w3 w4 w5 w6 w7 w8).2.2.1 613 = w7 := rfl
theorem sgM_causeRead_raI614 {σ : Sto} {w0 : Int32} {w1 : Int32} {w2 : Int32} {w3 : Int32} {w4 : Int32} {w5 : Int32} {w6 : Nat → Int32} {w7 : Nat → Int32} {w8 : Nat → Int32} : (sgM_causeRead σ w0 w1 w2 w3 w4 w5 w6 w7 w8).2.2.1 614 = w8 := rfl
abbrev rmM_causeRead : Room := { frames := 2, cells := 0, slots := 0, locals := 47 }
set_option maxHeartbeats 4000000 in
theorem wkM_causeRead  {r_ : Int32} {w_zI504 : Int32} {w_zI505 : Int32} {w_zI507 : Int32} {w_zI508 : Int32} {w_zI509 : Int32} {w_zI510 : Int32} {w_aI611 : Nat → Int32} {w_aI613 : Nat → Int32} {w_aI614 : Nat → Int32} (E : EN p s m args meth c0 RX16 cX16_causeRead 2 (Option.some Jvm.ClassFile.FieldType.boolean)) (hK : KK D clsA G s) (hA : ∀ q, PA dscM ad s.heap.size q → A q) (hf : mo_causeRead (σ.1 504) (σ.1 505) (σ.1 506) (σ.1 507) (σ.1 508) (σ.1 509) (σ.1 510) (σ.2.2.1 600) (σ.2.2.1 603) (σ.2.2.1 611) (σ.2.2.1 613) (σ.2.2.1 614) = some (r_, w_zI504, w_zI505, w_zI507, w_zI508, w_zI509, w_zI510, w_aI611, w_aI613, w_aI614)) (hQ : Q = MQ below (va_Qi (fun x (_ : Unit) => x = r_) (fun _ t => PM D G ad (sgM_causeRead σ w_zI504 w_zI505 w_zI507 w_zI508 w_zI509 w_zI510 w_aI611 w_aI613 w_aI614) t.heap ∧ KK D clsA G t) A) args s 0 0 A) (hP : PM D G ad σ H) (hS : va_S A s.heap H locs) (hl : lv_has ls 2 [(0, .ref (ad 500))]) : W p l e rmM_causeRead s m args below meth c0 H locs 0 0 Q (F0 m 0 ls []) := by
  obtain ⟨⟨hx, hb, hml, hown, hts⟩, hr, hlk⟩ := id E
  have hP := hP.to (sgM_causeRead_self σ).symm
  unfold mo_causeRead at hf
  refine lv_aload_n hx hb dX16_causeRead_0 rfl (lv_at hl 0 rfl) ?_
  refine gM_11 E hK hP dX16_causeRead_1 ?_
  refine lv_bipush hx hb dX16_causeRead_4 bp_9 ?_
  obtain ⟨v1, hv1, hf⟩ := bdP hf
  refine p_iald hx hb hK hP dM_611 sgM_causeRead_raI611 hv1 dX16_causeRead_6 ?_
  refine lv_iconst hx hb dX16_causeRead_7 ic_2 ?_
  refine lv_icmp_ne (tgt := 17) hx hb dX16_causeRead_8 (by decide) (fun c2 => ?_) (fun c2 => ?_)
  · have hf := ifF c2 hf
    refine lv_aload_n hx hb dX16_causeRead_17 rfl (lv_at hl 0 rfl) ?_
    obtain ⟨⟨z3, z4, z5, z6⟩, u7, hf⟩ := bdP hf
    dsimp only at hf
    refine cM_take E hK hP hS hA sgM_causeRead_rzI506 sgM_causeRead_rzI507 sgM_causeRead_rzI508 sgM_causeRead_rzI509 sgM_causeRead_rzI510 sgM_causeRead_raI600 sgM_causeRead_raI603 u7 ⟨Nat.le_of_ble_eq_true rfl, Nat.le_of_ble_eq_true rfl⟩ ⟨Nat.zero_le _, Nat.zero_le _⟩ hl.1 (Nat.le_of_ble_eq_true rfl) dX16_causeRead_18 (fun H locs hP hS => ?_)
    rw [sgM_causeRead_zI507, sgM_causeRead_zI508, sgM_causeRead_zI509, sgM_causeRead_zI510] at hP
    refine lv_aload_n hx hb dX16_causeRead_21 rfl (lv_at hl 0 rfl) ?_
    refine gM_8 (v := z4) E hK hP sgM_causeRead_rzI508 dX16_causeRead_22 ?_
    refine lv_iconst hx hb dX16_causeRead_25 ic_2 ?_
    refine lv_icmp_eq (tgt := 35) hx hb dX16_causeRead_26 (by decide) (fun c8 => ?_) (fun c8 => ?_)
    · have hf := ifT c8 hf
      refine lv_aload_n hx hb dX16_causeRead_35 rfl (lv_at hl 0 rfl) ?_
      refine lv_aload_n hx hb dX16_causeRead_36 rfl (lv_at hl 0 rfl) ?_
      refine gM_9 (v := z5) E hK hP sgM_causeRead_rzI509 dX16_causeRead_37 ?_
      obtain ⟨v9, u10, hf⟩ := bdP hf
      refine cM_causeBy E hK hP hS hA sgM_causeRead_raI611 sgM_causeRead_raI613 u10 ⟨Nat.le_of_ble_eq_true rfl, Nat.le_of_ble_eq_true rfl⟩ ⟨Nat.zero_le _, Nat.zero_le _⟩ hl.1 (Nat.le_of_ble_eq_true rfl) dX16_causeRead_40 (fun H locs hP hS => ?_)
      refine lv_if_lt (tgt := 52) hx hb dX16_causeRead_43 (by decide) (fun c11 => ?_) (fun c11 => ?_)
      · have hf := ifT c11 hf
        refine lv_aload_n hx hb dX16_causeRead_52 rfl (lv_at hl 0 rfl) ?_
        refine gM_9 (v := z5) E hK hP sgM_causeRead_rzI509 dX16_causeRead_53 ?_
        refine lv_istore_n (lv' := [(1, .int z5), (0, .ref (ad 500))]) hx hb dX16_causeRead_56 rfl hl (by decide) rfl (fun ls hl => ?_)
        refine lv_aload_n hx hb dX16_causeRead_57 rfl (lv_at hl 1 rfl) ?_
        obtain ⟨⟨z12, z13, z14, z15⟩, u16, hf⟩ := bdP hf
        dsimp only at hf
        refine cM_take E hK hP hS hA sgM_causeRead_rzI506 sgM_causeRead_rzI507 sgM_causeRead_rzI508 sgM_causeRead_rzI509 sgM_causeRead_rzI510 sgM_causeRead_raI600 sgM_causeRead_raI603 u16 ⟨Nat.le_of_ble_eq_true rfl, Nat.le_of_ble_eq_true rfl⟩ ⟨Nat.zero_le _, Nat.zero_le _⟩ hl.1 (Nat.le_of_ble_eq_true rfl) dX16_causeRead_58 (fun H locs hP hS => ?_)
        rw [sgM_causeRead_zI507, sgM_causeRead_zI508, sgM_causeRead_zI509, sgM_causeRead_zI510] at hP
        refine lv_aload_n hx hb dX16_causeRead_61 rfl (lv_at hl 1 rfl) ?_
        refine lv_iconst hx hb dX16_causeRead_62 ic_1 ?_
        refine lv_bipush hx hb dX16_causeRead_63 bp_9 ?_
        obtain ⟨⟨v17, z18, z19⟩, u20, hf⟩ := bdP hf
        dsimp only at hf
        refine cM_numberRead E hK hP hS hA sgM_causeRead_rzI504 sgM_causeRead_rzI505 sgM_causeRead_rzI508 sgM_causeRead_rzI509 sgM_causeRead_rzI510 u20 ⟨Nat.le_of_ble_eq_true rfl, Nat.le_of_ble_eq_true rfl⟩ ⟨Nat.zero_le _, Nat.zero_le _⟩ hl.1 (Nat.le_of_ble_eq_true rfl) dX16_causeRead_65 (fun H locs hP hS => ?_)
        rw [sgM_causeRead_zI504, sgM_causeRead_zI505] at hP
        refine lv_if_ne (tgt := 73) hx hb dX16_causeRead_68 (by decide) (fun c21 => ?_) (fun c21 => ?_)
        · have hf := ifF c21 hf
          refine lv_aload_n hx hb dX16_causeRead_73 rfl (lv_at hl 1 rfl) ?_
          refine gM_13 E hK hP dX16_causeRead_74 ?_
          refine lv_iconst hx hb dX16_causeRead_77 ic_2 ?_
          refine lv_aload_n hx hb dX16_causeRead_78 rfl (lv_at hl 1 rfl) ?_
          refine gM_11 E hK hP dX16_causeRead_79 ?_
          refine lv_bipush hx hb dX16_causeRead_82 bp_9 ?_
          obtain ⟨v22, hv22, hf⟩ := bdP hf
          refine p_iald hx hb hK hP dM_611 sgM_causeRead_raI611 hv22 dX16_causeRead_84 ?_
          refine lv_iadd hx hb dX16_causeRead_85 ?_
          refine lv_iload_n hx hb dX16_causeRead_86 rfl (lv_at hl 0 rfl) ?_
          obtain ⟨a23, ha23, hf⟩ := bdP hf
          refine p_iast hx hb hK hP hS (hA _ (PA_c dM_613)) dM_613 sgM_causeRead_raI613 ha23 sgM_causeRead_aI613 dX16_causeRead_87 (fun H locs hP hS => ?_)
          refine lv_aload_n hx hb dX16_causeRead_88 rfl (lv_at hl 1 rfl) ?_
          refine gM_14 E hK hP dX16_causeRead_89 ?_
          refine lv_iconst hx hb dX16_causeRead_92 ic_2 ?_
          refine lv_aload_n hx hb dX16_causeRead_93 rfl (lv_at hl 1 rfl) ?_
          refine gM_11 E hK hP dX16_causeRead_94 ?_
          refine lv_bipush hx hb dX16_causeRead_97 bp_9 ?_
          obtain ⟨v24, hv24, hf⟩ := bdP hf
          refine p_iald hx hb hK hP dM_611 sgM_causeRead_raI611 hv24 dX16_causeRead_99 ?_
          refine lv_iadd hx hb dX16_causeRead_100 ?_
          refine lv_aload_n hx hb dX16_causeRead_101 rfl (lv_at hl 1 rfl) ?_
          refine gM_9 (v := z14) E hK hP sgM_causeRead_rzI509 dX16_causeRead_102 ?_
          obtain ⟨a25, ha25, hf⟩ := bdP hf
          refine p_iast hx hb hK hP hS (hA _ (PA_c dM_614)) dM_614 sgM_causeRead_raI614 ha25 sgM_causeRead_aI614 dX16_causeRead_105 (fun H locs hP hS => ?_)
          refine lv_aload_n hx hb dX16_causeRead_106 rfl (lv_at hl 1 rfl) ?_
          refine gM_11 E hK hP dX16_causeRead_107 ?_
          refine lv_bipush hx hb dX16_causeRead_110 bp_9 ?_
          refine lv_dup2_11 hx hb dX16_causeRead_112 rfl rfl ?_
          obtain ⟨v26, hv26, hf⟩ := bdP hf
          refine p_iald hx hb hK hP dM_611 sgM_causeRead_raI611 hv26 dX16_causeRead_113 ?_
          refine lv_iconst hx hb dX16_causeRead_114 ic_1 ?_
          refine lv_iadd hx hb dX16_causeRead_115 ?_
          obtain ⟨a27, ha27, hf⟩ := bdP hf
          refine p_iast hx hb hK hP hS (hA _ (PA_c dM_611)) dM_611 sgM_causeRead_raI611 ha27 sgM_causeRead_aI611 dX16_causeRead_116 (fun H locs hP hS => ?_)
          refine lv_aload_n hx hb dX16_causeRead_117 rfl (lv_at hl 1 rfl) ?_
          obtain ⟨⟨z28, z29, z30, z31⟩, u32, hf⟩ := bdP hf
          dsimp only at hf
          refine cM_take E hK hP hS hA sgM_causeRead_rzI506 sgM_causeRead_rzI507 sgM_causeRead_rzI508 sgM_causeRead_rzI509 sgM_causeRead_rzI510 sgM_causeRead_raI600 sgM_causeRead_raI603 u32 ⟨Nat.le_of_ble_eq_true rfl, Nat.le_of_ble_eq_true rfl⟩ ⟨Nat.zero_le _, Nat.zero_le _⟩ hl.1 (Nat.le_of_ble_eq_true rfl) dX16_causeRead_118 (fun H locs hP hS => ?_)
          rw [sgM_causeRead_zI507, sgM_causeRead_zI508, sgM_causeRead_zI509, sgM_causeRead_zI510] at hP
          refine lv_iconst hx hb dX16_causeRead_121 ic_1 ?_
          cases hf
          rw [hQ]; exact p_zret hx hb hr hlk hK hP hS rfl dX16_causeRead_122
        · have hf := ifT c21 hf
          refine lv_iconst hx hb dX16_causeRead_71 ic_0 ?_
          cases hf
          rw [hQ]; exact p_zret hx hb hr hlk hK hP hS rfl dX16_causeRead_72
      · have hf := ifF c11 hf
        refine lv_aload_n hx hb dX16_causeRead_46 rfl (lv_at hl 0 rfl) ?_
        refine lv_iconst hx hb dX16_causeRead_47 ic_3 ?_
        obtain ⟨⟨v33, z34, z35⟩, u36, hf⟩ := bdP hf
        dsimp only at hf
        refine cM_wrong E hK hP hS hA sgM_causeRead_rzI504 sgM_causeRead_rzI505 sgM_causeRead_rzI510 u36 ⟨Nat.le_of_ble_eq_true rfl, Nat.le_of_ble_eq_true rfl⟩ ⟨Nat.zero_le _, Nat.zero_le _⟩ hl.1 (Nat.le_of_ble_eq_true rfl) dX16_causeRead_48 (fun H locs hP hS => ?_)
        rw [sgM_causeRead_zI504, sgM_causeRead_zI505] at hP
        obtain ⟨v37, hv37, hf⟩ := bdP hf
        obtain ⟨hv37a, hv37b⟩ := retZ_some hv37
        subst hv37a
        cases hf
        rw [hQ]; exact p_zret hx hb hr hlk hK hP hS hv37b dX16_causeRead_51
    · have hf := ifF c8 hf
      refine lv_aload_n hx hb dX16_causeRead_29 rfl (lv_at hl 0 rfl) ?_
      refine lv_iconst hx hb dX16_causeRead_30 ic_1 ?_
      obtain ⟨⟨v38, z39, z40⟩, u41, hf⟩ := bdP hf
      dsimp only at hf
      refine cM_wrong E hK hP hS hA sgM_causeRead_rzI504 sgM_causeRead_rzI505 sgM_causeRead_rzI510 u41 ⟨Nat.le_of_ble_eq_true rfl, Nat.le_of_ble_eq_true rfl⟩ ⟨Nat.zero_le _, Nat.zero_le _⟩ hl.1 (Nat.le_of_ble_eq_true rfl) dX16_causeRead_31 (fun H locs hP hS => ?_)
      rw [sgM_causeRead_zI504, sgM_causeRead_zI505] at hP
      obtain ⟨v42, hv42, hf⟩ := bdP hf
      obtain ⟨hv42a, hv42b⟩ := retZ_some hv42
      subst hv42a
      cases hf
      rw [hQ]; exact p_zret hx hb hr hlk hK hP hS hv42b dX16_causeRead_34
  · have hf := ifT c2 hf
    refine lv_aload_n hx hb dX16_causeRead_11 rfl (lv_at hl 0 rfl) ?_
    refine lv_iconst hx hb dX16_causeRead_12 ic_2 ?_
    obtain ⟨⟨v43, z44, z45⟩, u46, hf⟩ := bdP hf
    dsimp only at hf
    refine cM_wrong E hK hP hS hA sgM_causeRead_rzI504 sgM_causeRead_rzI505 sgM_causeRead_rzI510 u46 ⟨Nat.le_of_ble_eq_true rfl, Nat.le_of_ble_eq_true rfl⟩ ⟨Nat.zero_le _, Nat.zero_le _⟩ hl.1 (Nat.le_of_ble_eq_true rfl) dX16_causeRead_13 (fun H locs hP hS => ?_)
    rw [sgM_causeRead_zI504, sgM_causeRead_zI505] at hP
    obtain ⟨v47, hv47, hf⟩ := bdP hf
    obtain ⟨hv47a, hv47b⟩ := retZ_some hv47
    subst hv47a
    cases hf
    rw [hQ]; exact p_zret hx hb hr hlk hK hP hS hv47b dX16_causeRead_16
theorem kM_causeRead (l : Launch) (D : va_G) (G : Nat → ClassId) (ad : Nat → Nat) (σ : Sto) {r_ : Int32} {w_zI504 : Int32} {w_zI505 : Int32} {w_zI507 : Int32} {w_zI508 : Int32} {w_zI509 : Int32} {w_zI510 : Int32} {w_aI611 : Nat → Int32} {w_aI613 : Nat → Int32} {w_aI614 : Nat → Int32} (hf : mo_causeRead (σ.1 504) (σ.1 505) (σ.1 506) (σ.1 507) (σ.1 508) (σ.1 509) (σ.1 510) (σ.2.2.1 600) (σ.2.2.1 603) (σ.2.2.1 611) (σ.2.2.1 613) (σ.2.2.1 614) = some (r_, w_zI504, w_zI505, w_zI507, w_zI508, w_zI509, w_zI510, w_aI611, w_aI613, w_aI614)) : CtI l D clsA G dscM ad yX16_causeRead (ws_ yX16_causeRead cX16_causeRead 2 (Option.some Jvm.ClassFile.FieldType.boolean)) rmM_causeRead [.ref (ad 500)] σ r_ (sgM_causeRead σ w_zI504 w_zI505 w_zI507 w_zI508 w_zI509 w_zI510 w_aI611 w_aI613 w_aI614) :=
  p_ctI (by decide +kernel) (Nat.le_of_ble_eq_true rfl) (fun p e s m below meth c0 ls A E hP hK hA hS hl => wkM_causeRead E hK hA hf rfl hP hS hl)
theorem cM_causeRead (E : EN p s m args meth c0 RX16 cc nL ret) (hK : KK D clsA G s) (hP : PM D G ad σ H) (hS : va_S A s.heap H locs) (hA : ∀ q, PA dscM ad s.heap.size q → A q) {r_ : Int32} {w_zI504 : Int32} {w_zI505 : Int32} {w_zI507 : Int32} {w_zI508 : Int32} {w_zI509 : Int32} {w_zI510 : Int32} {w_aI611 : Nat → Int32} {w_aI613 : Nat → Int32} {w_aI614 : Nat → Int32} {z_fault : Int32} (e_zI504 : σ.1 504 = z_fault) {z_faultPlace : Int32} (e_zI505 : σ.1 505 = z_faultPlace) {z_stop : Int32} (e_zI506 : σ.1 506 = z_stop) {z_next : Int32} (e_zI507 : σ.1 507 = z_next) {z_kind : Int32} (e_zI508 : σ.1 508 = z_kind) {z_which : Int32} (e_zI509 : σ.1 509 = z_which) {z_at : Int32} (e_zI510 : σ.1 510 = z_at) {a_tape : Nat → Int32} (e_aI600 : σ.2.2.1 600 = a_tape) {a_words : Nat → Int32} (e_aI603 : σ.2.2.1 603 = a_words) {a_many : Nat → Int32} (e_aI611 : σ.2.2.1 611 = a_many) {a_causeName : Nat → Int32} (e_aI613 : σ.2.2.1 613 = a_causeName) {a_causeOf10 : Nat → Int32} (e_aI614 : σ.2.2.1 614 = a_causeOf10) (hu : mo_causeRead z_fault z_faultPlace z_stop z_next z_kind z_which z_at a_tape a_words a_many a_causeName a_causeOf10 = some (r_, w_zI504, w_zI505, w_zI507, w_zI508, w_zI509, w_zI510, w_aI611, w_aI613, w_aI614)) (hR : rmM_causeRead.frames + 1 ≤ R.frames ∧ 8 + (2 + 11) + rmM_causeRead.locals ≤ R.locals) (hcs : cells ≤ R.cells ∧ slots ≤ R.slots) (hsz : ls.size = nL) (hW : (rest.map fun v => v.category).sum ≤ 8) (hdg : decode cc pc = .ok (.invokevirtual 216, 3)) (kk : ∀ (H1 : Heap) (locs1 : List Loc), PM D G ad (aI (aI (aI (zI (zI (zI (zI (zI (zI σ 504 w_zI504) 505 w_zI505) 507 w_zI507) 508 w_zI508) 509 w_zI509) 510 w_zI510) 611 w_aI611) 613 w_aI613) 614 w_aI614) H1 → va_S A s.heap H1 locs1 → W p l e R s m args below meth c0 H1 locs1 cells slots Q (F0 m (pc + 3) ls (.int r_ :: rest))) : W p l e R s m args below meth c0 H locs cells slots Q (F0 m pc ls (.ref (ad 500) :: rest)) := by
  subst e_zI504
  subst e_zI505
  subst e_zI506
  subst e_zI507
  subst e_zI508
  subst e_zI509
  subst e_zI510
  subst e_aI600
  subst e_aI603
  subst e_aI611
  subst e_aI613
  subst e_aI614
  exact p_callI (As := []) (rest := rest) E.1 hK hP hS hA (kM_causeRead l D G ad σ hu) (cwV 0 E.1.2.2.2.2 (lw_V q1910 q1912 qs63 q142 q1913) rfl rfl rfl (by decide +kernel) hR) dM_500 rfl rfl rfl hsz rfl hW hdg hcs kk
/-! placeOf(I)I -/
abbrev rmM_placeOf : Room := { frames := 0, cells := 0, slots := 0, locals := 0 }
set_option maxHeartbeats 4000000 in
theorem wkM_placeOf {x1 : Int32} {r_ : Int32} (E : EN p s m args meth c0 RX16 cX16_placeOf 3 (Option.some Jvm.ClassFile.FieldType.int)) (hK : KK D clsA G s) (hA : ∀ q, PA dscM ad s.heap.size q → A q) (hf : mo_placeOf (σ.2.2.1 611) (σ.2.2.1 612) x1 = some r_) (hQ : Q = MQ below (va_Qi (fun x (_ : Unit) => x = r_) (fun _ t => PM D G ad σ t.heap ∧ KK D clsA G t) A) args s 0 0 A) (hP : PM D G ad σ H) (hS : va_S A s.heap H locs) (hl : lv_has ls 3 [(0, .ref (ad 500)), (1, .int x1)]) : W p l e rmM_placeOf s m args below meth c0 H locs 0 0 Q (F0 m 0 ls []) := by
  obtain ⟨⟨hx, hb, hml, hown, hts⟩, hr, hlk⟩ := id E
  unfold mo_placeOf at hf
  refine lv_iconst hx hb dX16_placeOf_0 ic_0 ?_
  refine lv_istore_n (lv' := [(2, .int 0), (0, .ref (ad 500)), (1, .int x1)]) hx hb dX16_placeOf_1 rfl hl (by decide) rfl (fun ls hl => ?_)
  have LP2 : ∀ (st2 : Int32) (ex2 : (Int32) ⊕ (Unit)), loop (mo_placeOf_L2 (σ.2.2.1 611) (σ.2.2.1 612) x1) st2 = some ex2 → ∀ (H : Heap) (locs : List Loc), PM D G ad σ H → va_S A s.heap H locs → ∀ (ls : Array Slot), lv_has ls 3 [(0, .ref (ad 500)), (1, .int x1), (2, .int st2)] → (∀ (y7 : Int32), ex2 = (.inl y7) → ∀ (H : Heap) (locs : List Loc), PM D G ad σ H → va_S A s.heap H locs → ∀ (ls : Array Slot), lv_has ls 3 [(2, .int y7)] → W p l e rmM_placeOf s m args below meth c0 H locs 0 0 Q (F0 m 26 ls [])) → (ex2 = (.inr ()) → ∀ (H : Heap) (locs : List Loc), PM D G ad σ H → va_S A s.heap H locs → ∀ (ls : Array Slot), lv_has ls 3 [] → W p l e rmM_placeOf s m args below meth c0 H locs 0 0 Q (F0 m 34 ls [])) → W p l e rmM_placeOf s m args below meth c0 H locs 0 0 Q (F0 m 2 ls []) := by
    refine loop_P (fun st2 ex2 o2 hf ih2 hx2 => ?_)
    obtain ⟨y1, rfl⟩ : ∃ z, z = st2 := ⟨_, rfl⟩
    intro H locs (hP : PM D G ad σ H) hS ls (hl : lv_has ls 3 [(0, .ref (ad 500)), (1, .int x1), (2, .int y1)]) KE2_0 KE2_1
    dsimp only [mo_placeOf_L2] at hf
    refine lv_iload_n hx hb dX16_placeOf_2 rfl (lv_at hl 2 rfl) ?_
    refine lv_aload_n hx hb dX16_placeOf_3 rfl (lv_at hl 0 rfl) ?_
    refine gM_11 E hK hP dX16_placeOf_4 ?_
    refine lv_bipush hx hb dX16_placeOf_7 bp_8 ?_
    obtain ⟨v2, hv2, hf⟩ := bdP hf
    refine p_iald hx hb hK hP dM_611 rfl hv2 dX16_placeOf_9 ?_
    refine lv_icmp_ge (tgt := 34) hx hb dX16_placeOf_10 (by decide) (fun c3 => ?_) (fun c3 => ?_)
    · have hf := ifT c3 hf
      exact KE2_1  (hx2 _ (Option.some.inj hf).symm).symm H locs hP hS ls (lv_sub hl [] rfl)
    · have hf := ifF c3 hf
      refine lv_aload_n hx hb dX16_placeOf_13 rfl (lv_at hl 0 rfl) ?_
      refine gM_12 E hK hP dX16_placeOf_14 ?_
      refine lv_bipush hx hb dX16_placeOf_17 bp_10 ?_
      refine lv_iload_n hx hb dX16_placeOf_19 rfl (lv_at hl 2 rfl) ?_
      refine lv_iadd hx hb dX16_placeOf_20 ?_
      obtain ⟨v4, hv4, hf⟩ := bdP hf
      refine p_iald hx hb hK hP dM_612 rfl hv4 dX16_placeOf_21 ?_
      refine lv_iload_n hx hb dX16_placeOf_22 rfl (lv_at hl 1 rfl) ?_
      refine lv_icmp_ne (tgt := 28) hx hb dX16_placeOf_23 (by decide) (fun c5 => ?_) (fun c5 => ?_)
      · have hf := ifF c5 hf
        obtain ⟨v6, hv6, hf⟩ := bdP hf
        refine lv_iinc (v := v6) (lv' := [(2, .int v6), (0, .ref (ad 500)), (1, .int x1)]) hx hb dX16_placeOf_28 hl (k := 2) rfl (Option.some.inj hv6) (by decide) rfl (fun ls hl => ?_)
        refine lv_goto (tgt := 2) hx hb dX16_placeOf_31 (by decide) ?_
        exact ih2 _ (Option.some.inj hf).symm H locs hP hS ls (lv_sub hl [1, 2, 0] rfl) KE2_0 KE2_1
      · have hf := ifT c5 hf
        exact KE2_0 _ (hx2 _ (Option.some.inj hf).symm).symm H locs hP hS ls (lv_sub hl [2] rfl)
  obtain ⟨ex2, hlp2, hf⟩ := bdP hf
  refine LP2 0 ex2 hlp2 H locs hP hS ls (lv_sub hl [1, 2, 0] rfl) ?_ ?_
  · intro y7 hex2 H locs hP hS ls hl
    subst ex2
    dsimp only [sE_l, sE_r] at hf
    refine lv_iload_n hx hb dX16_placeOf_26 rfl (lv_at hl 0 rfl) ?_
    cases hf
    rw [hQ]; exact p_iret hx hb hr hlk hK hP hS dX16_placeOf_27
  · intro  hex2 H locs hP hS ls hl
    subst ex2
    dsimp only [sE_l, sE_r] at hf
    refine lv_iconst hx hb dX16_placeOf_34 ic_m1 ?_
    cases hf
    rw [hQ]; exact p_iret hx hb hr hlk hK hP hS dX16_placeOf_35
theorem kM_placeOf (l : Launch) (D : va_G) (G : Nat → ClassId) (ad : Nat → Nat) (σ : Sto) {x1 : Int32} {r_ : Int32} (hf : mo_placeOf (σ.2.2.1 611) (σ.2.2.1 612) x1 = some r_) : CtI l D clsA G dscM ad yX16_placeOf (ws_ yX16_placeOf cX16_placeOf 3 (Option.some Jvm.ClassFile.FieldType.int)) rmM_placeOf [.ref (ad 500), .int x1] σ r_ σ :=
  p_ctI (by decide +kernel) (Nat.le_of_ble_eq_true rfl) (fun p e s m below meth c0 ls A E hP hK hA hS hl => wkM_placeOf E hK hA hf rfl hP hS hl)
theorem cM_placeOf (E : EN p s m args meth c0 RX16 cc nL ret) (hK : KK D clsA G s) (hP : PM D G ad σ H) (hS : va_S A s.heap H locs) (hA : ∀ q, PA dscM ad s.heap.size q → A q) {x1 : Int32} {r_ : Int32} {a_many : Nat → Int32} (e_aI611 : σ.2.2.1 611 = a_many) {a_placeName : Nat → Int32} (e_aI612 : σ.2.2.1 612 = a_placeName) (hu : mo_placeOf a_many a_placeName x1 = some r_) (hR : rmM_placeOf.frames + 1 ≤ R.frames ∧ 8 + (3 + 11) + rmM_placeOf.locals ≤ R.locals) (hcs : cells ≤ R.cells ∧ slots ≤ R.slots) (hsz : ls.size = nL) (hW : (rest.map fun v => v.category).sum ≤ 8) (hdg : decode cc pc = .ok (.invokevirtual 179, 3)) (kk : ∀ (H1 : Heap) (locs1 : List Loc), PM D G ad σ H1 → va_S A s.heap H1 locs1 → W p l e R s m args below meth c0 H1 locs1 cells slots Q (F0 m (pc + 3) ls (.int r_ :: rest))) : W p l e R s m args below meth c0 H locs cells slots Q (F0 m pc ls (.int x1 :: .ref (ad 500) :: rest)) := by
  subst e_aI611
  subst e_aI612
  exact p_callI (As := [.int x1]) (rest := rest) E.1 hK hP hS hA (kM_placeOf l D G ad σ hu) (cwV 1 E.1.2.2.2.2 (lw_V q1906 q1908 qs62 q142 q1909) rfl rfl rfl (by decide +kernel) hR) dM_500 rfl rfl rfl hsz rfl hW hdg hcs kk
/-! spotRead()Z -/
def sgM_spotRead (σ : Sto) (w0 : Int32) (w1 : Int32) (w2 : Int32) : Sto := zI (zI (zI σ 504 w0) 505 w1) 519 w2
theorem sgM_spotRead_self (σ : Sto) : sgM_spotRead σ (σ.1 504) (σ.1 505) (σ.1 519) = σ := by
  unfold sgM_spotRead
  simp only [zI_self, zL_self, aI_self, aL_self]
theorem sgM_spotRead_zI504 {σ : Sto} {w0 : Int32} {w1 : Int32} {w2 : Int32} {g : Int32} : zI (sgM_spotRead σ w0 w1 w2) 504 g = sgM_spotRead σ g w1 w2 := (zI_comm _ (by decide) _ _).trans (congrArg (fun z => zI z 519 w2) ((zI_comm _ (by decide) _ _).trans (congrArg (fun z => zI z 505 w1) (zI_zI _ 504 _ _))))
theorem sgM_spotRead_zI505 {σ : Sto} {w0 : Int32} {w1 : Int32} {w2 : Int32} {g : Int32} : zI (sgM_spotRead σ w0 w1 w2) 505 g = sgM_spotRead σ w0 g w2 := (zI_comm _ (by decide) _ _).trans (congrArg (fun z => zI z 519 w2) (zI_zI _ 505 _ _))
theorem sgM_spotRead_zI519 {σ : Sto} {w0 : Int32} {w1 : Int32} {w2 : Int32} {g : Int32} : zI (sgM_spotRead σ w0 w1 w2) 519 g = sgM_spotRead σ w0 w1 g := zI_zI _ 519 _ _
theorem sgM_spotRead_rzI504 {σ : Sto} {w0 : Int32} {w1 : Int32} {w2 : Int32} : (sgM_spotRead σ w0 w1 w2).1 504 = w0 := rfl
theorem sgM_spotRead_rzI505 {σ : Sto} {w0 : Int32} {w1 : Int32} {w2 : Int32} : (sgM_spotRead σ w0 w1 w2).1 505 = w1 := rfl
theorem sgM_spotRead_rzI508 {σ : Sto} {w0 : Int32} {w1 : Int32} {w2 : Int32} : (sgM_spotRead σ w0 w1 w2).1 508 = σ.1 508 := rfl
theorem sgM_spotRead_rzI509 {σ : Sto} {w0 : Int32} {w1 : Int32} {w2 : Int32} : (sgM_spotRead σ w0 w1 w2).1 509 = σ.1 509 := rfl
theorem sgM_spotRead_rzI510 {σ : Sto} {w0 : Int32} {w1 : Int32} {w2 : Int32} : (sgM_spotRead σ w0 w1 w2).1 510 = σ.1 510 := rfl
theorem sgM_spotRead_rzI519 {σ : Sto} {w0 : Int32} {w1 : Int32} {w2 : Int32} : (sgM_spotRead σ w0 w1 w2).1 519 = w2 := rfl
theorem sgM_spotRead_raI611 {σ : Sto} {w0 : Int32} {w1 : Int32} {w2 : Int32} : (sgM_spotRead σ w0 w1 w2).2.2.1 611 = σ.2.2.1 611 := rfl
theorem sgM_spotRead_raI612 {σ : Sto} {w0 : Int32} {w1 : Int32} {w2 : Int32} : (sgM_spotRead σ w0 w1 w2).2.2.1 612 = σ.2.2.1 612 := rfl
abbrev rmM_spotRead : Room := { frames := 1, cells := 0, slots := 0, locals := 22 }
set_option maxHeartbeats 4000000 in
theorem wkM_spotRead  {r_ : Int32} {w_zI504 : Int32} {w_zI505 : Int32} {w_zI519 : Int32} (E : EN p s m args meth c0 RX16 cX16_spotRead 1 (Option.some Jvm.ClassFile.FieldType.boolean)) (hK : KK D clsA G s) (hA : ∀ q, PA dscM ad s.heap.size q → A q) (hf : mo_spotRead (σ.1 504) (σ.1 505) (σ.1 508) (σ.1 509) (σ.1 510) (σ.1 519) (σ.2.2.1 611) (σ.2.2.1 612) = some (r_, w_zI504, w_zI505, w_zI519)) (hQ : Q = MQ below (va_Qi (fun x (_ : Unit) => x = r_) (fun _ t => PM D G ad (sgM_spotRead σ w_zI504 w_zI505 w_zI519) t.heap ∧ KK D clsA G t) A) args s 0 0 A) (hP : PM D G ad σ H) (hS : va_S A s.heap H locs) (hl : lv_has ls 1 [(0, .ref (ad 500))]) : W p l e rmM_spotRead s m args below meth c0 H locs 0 0 Q (F0 m 0 ls []) := by
  obtain ⟨⟨hx, hb, hml, hown, hts⟩, hr, hlk⟩ := id E
  have hP := hP.to (sgM_spotRead_self σ).symm
  unfold mo_spotRead at hf
  refine lv_aload_n hx hb dX16_spotRead_0 rfl (lv_at hl 0 rfl) ?_
  refine gM_8 (v := (σ.1 508)) E hK hP sgM_spotRead_rzI508 dX16_spotRead_1 ?_
  refine lv_iconst hx hb dX16_spotRead_4 ic_2 ?_
  refine lv_icmp_eq (tgt := 14) hx hb dX16_spotRead_5 (by decide) (fun c1 => ?_) (fun c1 => ?_)
  · have hf := ifT c1 hf
    refine lv_aload_n hx hb dX16_spotRead_14 rfl (lv_at hl 0 rfl) ?_
    refine lv_aload_n hx hb dX16_spotRead_15 rfl (lv_at hl 0 rfl) ?_
    refine lv_aload_n hx hb dX16_spotRead_16 rfl (lv_at hl 0 rfl) ?_
    refine gM_9 (v := (σ.1 509)) E hK hP sgM_spotRead_rzI509 dX16_spotRead_17 ?_
    obtain ⟨v2, u3, hf⟩ := bdP hf
    refine cM_placeOf E hK hP hS hA sgM_spotRead_raI611 sgM_spotRead_raI612 u3 ⟨Nat.le_of_ble_eq_true rfl, Nat.le_of_ble_eq_true rfl⟩ ⟨Nat.zero_le _, Nat.zero_le _⟩ hl.1 (Nat.le_of_ble_eq_true rfl) dX16_spotRead_20 (fun H locs hP hS => ?_)
    refine uM_19 E hK hP hS (hA _ (PA_c dM_500)) sgM_spotRead_zI519 dX16_spotRead_23 (fun H locs hP hS => ?_)
    refine lv_aload_n hx hb dX16_spotRead_26 rfl (lv_at hl 0 rfl) ?_
    refine gM_19 (v := v2) E hK hP sgM_spotRead_rzI519 dX16_spotRead_27 ?_
    have J41 : ∀ (z4 : Int32) (z5 : Int32), mo_spotRead_J41 v2 z4 z5 = some (r_, w_zI504, w_zI505, w_zI519) → ∀ (H : Heap) (locs : List Loc), PM D G ad (sgM_spotRead σ z4 z5 v2) H → va_S A s.heap H locs → ∀ (ls : Array Slot), lv_has ls 1 [] → W p l e rmM_spotRead s m args below meth c0 H locs 0 0 Q (F0 m 41 ls []) := by
      intro z4 z5 hf H locs hP hS ls hl
      unfold mo_spotRead_J41 at hf
      refine lv_iconst hx hb dX16_spotRead_41 ic_1 ?_
      refine lv_goto (tgt := 46) hx hb dX16_spotRead_42 (by decide) ?_
      cases hf
      rw [hQ]; exact p_zret hx hb hr hlk hK hP hS rfl dX16_spotRead_46
    refine lv_if_ge (tgt := 41) hx hb dX16_spotRead_30 (by decide) (fun c6 => ?_) (fun c6 => ?_)
    · have hf := ifT c6 hf
      exact J41 (σ.1 504) (σ.1 505) hf H locs hP hS ls (lv_sub hl [] rfl)
    · have hf := ifF c6 hf
      refine lv_aload_n hx hb dX16_spotRead_33 rfl (lv_at hl 0 rfl) ?_
      refine lv_iconst hx hb dX16_spotRead_34 ic_4 ?_
      obtain ⟨⟨v7, z8, z9⟩, u10, hf⟩ := bdP hf
      dsimp only at hf
      refine cM_wrong E hK hP hS hA sgM_spotRead_rzI504 sgM_spotRead_rzI505 sgM_spotRead_rzI510 u10 ⟨Nat.le_of_ble_eq_true rfl, Nat.le_of_ble_eq_true rfl⟩ ⟨Nat.zero_le _, Nat.zero_le _⟩ hl.1 (Nat.le_of_ble_eq_true rfl) dX16_spotRead_35 (fun H locs hP hS => ?_)
      rw [sgM_spotRead_zI504, sgM_spotRead_zI505] at hP
      refine lv_if_eq (tgt := 45) hx hb dX16_spotRead_38 (by decide) (fun c11 => ?_) (fun c11 => ?_)
      · have hf := ifT c11 hf
        refine lv_iconst hx hb dX16_spotRead_45 ic_0 ?_
        cases hf
        rw [hQ]; exact p_zret hx hb hr hlk hK hP hS rfl dX16_spotRead_46
      · have hf := ifF c11 hf
        exact J41 z8 z9 hf H locs hP hS ls (lv_sub hl [] rfl)
  · have hf := ifF c1 hf
    refine lv_aload_n hx hb dX16_spotRead_8 rfl (lv_at hl 0 rfl) ?_
    refine lv_iconst hx hb dX16_spotRead_9 ic_1 ?_
    obtain ⟨⟨v12, z13, z14⟩, u15, hf⟩ := bdP hf
    dsimp only at hf
    refine cM_wrong E hK hP hS hA sgM_spotRead_rzI504 sgM_spotRead_rzI505 sgM_spotRead_rzI510 u15 ⟨Nat.le_of_ble_eq_true rfl, Nat.le_of_ble_eq_true rfl⟩ ⟨Nat.zero_le _, Nat.zero_le _⟩ hl.1 (Nat.le_of_ble_eq_true rfl) dX16_spotRead_10 (fun H locs hP hS => ?_)
    rw [sgM_spotRead_zI504, sgM_spotRead_zI505] at hP
    obtain ⟨v16, hv16, hf⟩ := bdP hf
    obtain ⟨hv16a, hv16b⟩ := retZ_some hv16
    subst hv16a
    cases hf
    rw [hQ]; exact p_zret hx hb hr hlk hK hP hS hv16b dX16_spotRead_13
theorem kM_spotRead (l : Launch) (D : va_G) (G : Nat → ClassId) (ad : Nat → Nat) (σ : Sto) {r_ : Int32} {w_zI504 : Int32} {w_zI505 : Int32} {w_zI519 : Int32} (hf : mo_spotRead (σ.1 504) (σ.1 505) (σ.1 508) (σ.1 509) (σ.1 510) (σ.1 519) (σ.2.2.1 611) (σ.2.2.1 612) = some (r_, w_zI504, w_zI505, w_zI519)) : CtI l D clsA G dscM ad yX16_spotRead (ws_ yX16_spotRead cX16_spotRead 1 (Option.some Jvm.ClassFile.FieldType.boolean)) rmM_spotRead [.ref (ad 500)] σ r_ (sgM_spotRead σ w_zI504 w_zI505 w_zI519) :=
  p_ctI (by decide +kernel) (Nat.le_of_ble_eq_true rfl) (fun p e s m below meth c0 ls A E hP hK hA hS hl => wkM_spotRead E hK hA hf rfl hP hS hl)
theorem cM_spotRead (E : EN p s m args meth c0 RX16 cc nL ret) (hK : KK D clsA G s) (hP : PM D G ad σ H) (hS : va_S A s.heap H locs) (hA : ∀ q, PA dscM ad s.heap.size q → A q) {r_ : Int32} {w_zI504 : Int32} {w_zI505 : Int32} {w_zI519 : Int32} {z_fault : Int32} (e_zI504 : σ.1 504 = z_fault) {z_faultPlace : Int32} (e_zI505 : σ.1 505 = z_faultPlace) {z_kind : Int32} (e_zI508 : σ.1 508 = z_kind) {z_which : Int32} (e_zI509 : σ.1 509 = z_which) {z_at : Int32} (e_zI510 : σ.1 510 = z_at) {z_spot : Int32} (e_zI519 : σ.1 519 = z_spot) {a_many : Nat → Int32} (e_aI611 : σ.2.2.1 611 = a_many) {a_placeName : Nat → Int32} (e_aI612 : σ.2.2.1 612 = a_placeName) (hu : mo_spotRead z_fault z_faultPlace z_kind z_which z_at z_spot a_many a_placeName = some (r_, w_zI504, w_zI505, w_zI519)) (hR : rmM_spotRead.frames + 1 ≤ R.frames ∧ 8 + (1 + 11) + rmM_spotRead.locals ≤ R.locals) (hcs : cells ≤ R.cells ∧ slots ≤ R.slots) (hsz : ls.size = nL) (hW : (rest.map fun v => v.category).sum ≤ 8) (hdg : decode cc pc = .ok (.invokevirtual 196, 3)) (kk : ∀ (H1 : Heap) (locs1 : List Loc), PM D G ad (zI (zI (zI σ 504 w_zI504) 505 w_zI505) 519 w_zI519) H1 → va_S A s.heap H1 locs1 → W p l e R s m args below meth c0 H1 locs1 cells slots Q (F0 m (pc + 3) ls (.int r_ :: rest))) : W p l e R s m args below meth c0 H locs cells slots Q (F0 m pc ls (.ref (ad 500) :: rest)) := by
  subst e_zI504
  subst e_zI505
  subst e_zI508
  subst e_zI509
  subst e_zI510
  subst e_zI519
  subst e_aI611
  subst e_aI612
  exact p_callI (As := []) (rest := rest) E.1 hK hP hS hA (kM_spotRead l D G ad σ hu) (cwV 0 E.1.2.2.2.2 (lw_V q1926 q1928 qs67 q142 q1929) rfl rfl rfl (by decide +kernel) hR) dM_500 rfl rfl rfl hsz rfl hW hdg hcs kk
/-! endRead(I)Z -/
def sgM_endRead (σ : Sto) (w0 : Int32) (w1 : Int32) (w2 : Int32) (w3 : Int32) (w4 : Int32) (w5 : Int32) (w6 : Int32) (w7 : Nat → Int32) : Sto := aI (zI (zI (zI (zI (zI (zI (zI σ 504 w0) 505 w1) 507 w2) 508 w3) 509 w4) 510 w5) 519 w6) 611 w7
theorem sgM_endRead_self (σ : Sto) : sgM_endRead σ (σ.1 504) (σ.1 505) (σ.1 507) (σ.1 508) (σ.1 509) (σ.1 510) (σ.1 519) (σ.2.2.1 611) = σ := by
  unfold sgM_endRead
  simp only [zI_self, zL_self, aI_self, aL_self]
theorem sgM_endRead_zI504 {σ : Sto} {w0 : Int32} {w1 : Int32} {w2 : Int32} {w3 : Int32} {w4 : Int32} {w5 : Int32} {w6 : Int32} {w7 : Nat → Int32} {g : Int32} : zI (sgM_endRead σ w0 w1 w2 w3 w4 w5 w6 w7) 504 g = sgM_endRead σ g w1 w2 w3 w4 w5 w6 w7 := (cm_zI_aI _ _ _ _ _).trans (congrArg (fun z => aI z 611 w7) ((zI_comm _ (by decide) _ _).trans (congrArg (fun z => zI z 519 w6) ((zI_comm _ (by decide) _ _).trans (congrArg (fun z => zI z 510 w5) ((zI_comm _ (by decide) _ _).trans (congrArg (fun z => zI z 509 w4) ((zI_comm _ (by decide) _ _).trans (congrArg (fun z => zI z 508 w3) ((zI_comm _ (by decide) _ _).trans (congrArg (fun z => zI z 507 w2) ((zI_comm _ (by decide) _ _).trans (congrArg (fun z => zI z 505 w1) (zI_zI _ 504 _ _))))))))))))))
theorem sgM_endRead_zI505 {σ : Sto} {w0 : Int32} {w1 : Int32} {w2 : Int32} {w3 : Int32} {w4 : Int32} {w5 : Int32} {w6 : Int32} {w7 : Nat → Int32} {g : Int32} : zI (sgM_endRead σ w0 w1 w2 w3 w4 w5 w6 w7) 505 g = sgM_endRead σ w0 g w2 w3 w4 w5 w6 w7 := (cm_zI_aI _ _ _ _ _).trans (congrArg (fun z => aI z 611 w7) ((zI_comm _ (by decide) _ _).trans (congrArg (fun z => zI z 519 w6) ((zI_comm _ (by decide) _ _).trans (congrArg (fun z => zI z 510 w5) ((zI_comm _ (by decide) _ _).trans (congrArg (fun z => zI z 509 w4) ((zI_comm _ (by decide) _ _).trans (congrArg (fun z => zI z 508 w3) ((zI_comm _ (by decide) _ _).trans (congrArg (fun z => zI z 507 w2) (zI_zI _ 505 _ _))))))))))))
theorem sgM_endRead_zI507 {σ : Sto} {w0 : Int32} {w1 : Int32} {w2 : Int32} {w3 : Int32} {w4 : Int32} {w5 : Int32} {w6 : Int32} {w7 : Nat → Int32} {g : Int32} : zI (sgM_endRead σ w0 w1 w2 w3 w4 w5 w6 w7) 507 g = sgM_endRead σ w0 w1 g w3 w4 w5 w6 w7 := (cm_zI_aI _ _ _ _ _).trans (congrArg (fun z => aI z 611 w7) ((zI_comm _ (by decide) _ _).trans (congrArg (fun z => zI z 519 w6) ((zI_comm _ (by decide) _ _).trans (congrArg (fun z => zI z 510 w5) ((zI_comm _ (by decide) _ _).trans (congrArg (fun z => zI z 509 w4) ((zI_comm _ (by decide) _ _).trans (congrArg (fun z => zI z 508 w3) (zI_zI _ 507 _ _))))))))))
theorem sgM_endRead_zI508 {σ : Sto} {w0 : Int32} {w1 : Int32} {w2 : Int32} {w3 : Int32} {w4 : Int32} {w5 : Int32} {w6 : Int32} {w7 : Nat → Int32} {g : Int32} : zI (sgM_endRead σ w0 w1 w2 w3 w4 w5 w6 w7) 508 g = sgM_endRead σ w0 w1 w2 g w4 w5 w6 w7 := (cm_zI_aI _ _ _ _ _).trans (congrArg (fun z => aI z 611 w7) ((zI_comm _ (by decide) _ _).trans (congrArg (fun z => zI z 519 w6) ((zI_comm _ (by decide) _ _).trans (congrArg (fun z => zI z 510 w5) ((zI_comm _ (by decide) _ _).trans (congrArg (fun z => zI z 509 w4) (zI_zI _ 508 _ _))))))))
theorem sgM_endRead_zI509 {σ : Sto} {w0 : Int32} {w1 : Int32} {w2 : Int32} {w3 : Int32} {w4 : Int32} {w5 : Int32} {w6 : Int32} {w7 : Nat → Int32} {g : Int32} : zI (sgM_endRead σ w0 w1 w2 w3 w4 w5 w6 w7) 509 g = sgM_endRead σ w0 w1 w2 w3 g w5 w6 w7 := (cm_zI_aI _ _ _ _ _).trans (congrArg (fun z => aI z 611 w7) ((zI_comm _ (by decide) _ _).trans (congrArg (fun z => zI z 519 w6) ((zI_comm _ (by decide) _ _).trans (congrArg (fun z => zI z 510 w5) (zI_zI _ 509 _ _))))))
theorem sgM_endRead_zI510 {σ : Sto} {w0 : Int32} {w1 : Int32} {w2 : Int32} {w3 : Int32} {w4 : Int32} {w5 : Int32} {w6 : Int32} {w7 : Nat → Int32} {g : Int32} : zI (sgM_endRead σ w0 w1 w2 w3 w4 w5 w6 w7) 510 g = sgM_endRead σ w0 w1 w2 w3 w4 g w6 w7 := (cm_zI_aI _ _ _ _ _).trans (congrArg (fun z => aI z 611 w7) ((zI_comm _ (by decide) _ _).trans (congrArg (fun z => zI z 519 w6) (zI_zI _ 510 _ _))))
theorem sgM_endRead_zI519 {σ : Sto} {w0 : Int32} {w1 : Int32} {w2 : Int32} {w3 : Int32} {w4 : Int32} {w5 : Int32} {w6 : Int32} {w7 : Nat → Int32} {g : Int32} : zI (sgM_endRead σ w0 w1 w2 w3 w4 w5 w6 w7) 519 g = sgM_endRead σ w0 w1 w2 w3 w4 w5 g w7 := (cm_zI_aI _ _ _ _ _).trans (congrArg (fun z => aI z 611 w7) (zI_zI _ 519 _ _))
theorem sgM_endRead_aI611 {σ : Sto} {w0 : Int32} {w1 : Int32} {w2 : Int32} {w3 : Int32} {w4 : Int32} {w5 : Int32} {w6 : Int32} {w7 : Nat → Int32} {g : Nat → Int32} : aI (sgM_endRead σ w0 w1 w2 w3 w4 w5 w6 w7) 611 g = sgM_endRead σ w0 w1 w2 w3 w4 w5 w6 g := aI_aI _ 611 _ _
theorem sgM_endRead_rzI504 {σ : Sto} {w0 : Int32} {w1 : Int32} {w2 : Int32} {w3 : Int32} {w4 : Int32} {w5 : Int32} {w6 : Int32} {w7 : Nat → Int32} : (sgM_endRead σ w0 w1 w2 w3 w4 w5 w6 w7).1 504 = w0 := rfl
theorem sgM_endRead_rzI505 {σ : Sto} {w0 : Int32} {w1 : Int32} {w2 : Int32} {w3 : Int32} {w4 : Int32} {w5 : Int32} {w6 : Int32} {w7 : Nat → Int32} : (sgM_endRead σ w0 w1 w2 w3 w4 w5 w6 w7).1 505 = w1 := rfl
theorem sgM_endRead_rzI506 {σ : Sto} {w0 : Int32} {w1 : Int32} {w2 : Int32} {w3 : Int32} {w4 : Int32} {w5 : Int32} {w6 : Int32} {w7 : Nat → Int32} : (sgM_endRead σ w0 w1 w2 w3 w4 w5 w6 w7).1 506 = σ.1 506 := rfl
theorem sgM_endRead_rzI507 {σ : Sto} {w0 : Int32} {w1 : Int32} {w2 : Int32} {w3 : Int32} {w4 : Int32} {w5 : Int32} {w6 : Int32} {w7 : Nat → Int32} : (sgM_endRead σ w0 w1 w2 w3 w4 w5 w6 w7).1 507 = w2 := rfl
theorem sgM_endRead_rzI508 {σ : Sto} {w0 : Int32} {w1 : Int32} {w2 : Int32} {w3 : Int32} {w4 : Int32} {w5 : Int32} {w6 : Int32} {w7 : Nat → Int32} : (sgM_endRead σ w0 w1 w2 w3 w4 w5 w6 w7).1 508 = w3 := rfl
theorem sgM_endRead_rzI509 {σ : Sto} {w0 : Int32} {w1 : Int32} {w2 : Int32} {w3 : Int32} {w4 : Int32} {w5 : Int32} {w6 : Int32} {w7 : Nat → Int32} : (sgM_endRead σ w0 w1 w2 w3 w4 w5 w6 w7).1 509 = w4 := rfl
theorem sgM_endRead_rzI510 {σ : Sto} {w0 : Int32} {w1 : Int32} {w2 : Int32} {w3 : Int32} {w4 : Int32} {w5 : Int32} {w6 : Int32} {w7 : Nat → Int32} : (sgM_endRead σ w0 w1 w2 w3 w4 w5 w6 w7).1 510 = w5 := rfl
theorem sgM_endRead_rzI519 {σ : Sto} {w0 : Int32} {w1 : Int32} {w2 : Int32} {w3 : Int32} {w4 : Int32} {w5 : Int32} {w6 : Int32} {w7 : Nat → Int32} : (sgM_endRead σ w0 w1 w2 w3 w4 w5 w6 w7).1 519 = w6 := rfl
theorem sgM_endRead_raI600 {σ : Sto} {w0 : Int32} {w1 : Int32} {w2 : Int32} {w3 : Int32} {w4 : Int32} {w5 : Int32} {w6 : Int32} {w7 : Nat → Int32} : (sgM_endRead σ w0 w1 w2 w3 w4 w5 w6 w7).2.2.1 600 = σ.2.2.1 600 := rfl
theorem sgM_endRead_raI603 {σ : Sto} {w0 : Int32} {w1 : Int32} {w2 : Int32} {w3 : Int32} {w4 : Int32} {w5 : Int32} {w6 : Int32} {w7 : Nat → Int32} : (sgM_endRead σ w0 w1 w2 w3 w4 w5 w6 w7).2.2.1 603 = σ.2.2.1 603 := rfl
theorem sgM_endRead_raI611 {σ : Sto} {w0 : Int32} {w1 : Int32} {w2 : Int32} {w3 : Int32} {w4 : Int32} {w5 : Int32} {w6 : Int32} {w7 : Nat → Int32} : (sgM_endRead σ w0 w1 w2 w3 w4 w5 w6 w7).2.2.1 611 = w7 := rfl
theorem sgM_endRead_raI612 {σ : Sto} {w0 : Int32} {w1 : Int32} {w2 : Int32} {w3 : Int32} {w4 : Int32} {w5 : Int32} {w6 : Int32} {w7 : Nat → Int32} : (sgM_endRead σ w0 w1 w2 w3 w4 w5 w6 w7).2.2.1 612 = σ.2.2.1 612 := rfl
abbrev rmM_endRead : Room := { frames := 2, cells := 0, slots := 0, locals := 47 }
set_option maxHeartbeats 4000000 in
theorem wkM_endRead {x1 : Int32} {r_ : Int32} {w_zI504 : Int32} {w_zI505 : Int32} {w_zI507 : Int32} {w_zI508 : Int32} {w_zI509 : Int32} {w_zI510 : Int32} {w_zI519 : Int32} {w_aI611 : Nat → Int32} (E : EN p s m args meth c0 RX16 cX16_endRead 2 (Option.some Jvm.ClassFile.FieldType.boolean)) (hK : KK D clsA G s) (hA : ∀ q, PA dscM ad s.heap.size q → A q) (hf : mo_endRead (σ.1 504) (σ.1 505) (σ.1 506) (σ.1 507) (σ.1 508) (σ.1 509) (σ.1 510) (σ.1 519) (σ.2.2.1 600) (σ.2.2.1 603) (σ.2.2.1 611) (σ.2.2.1 612) x1 = some (r_, w_zI504, w_zI505, w_zI507, w_zI508, w_zI509, w_zI510, w_zI519, w_aI611)) (hQ : Q = MQ below (va_Qi (fun x (_ : Unit) => x = r_) (fun _ t => PM D G ad (sgM_endRead σ w_zI504 w_zI505 w_zI507 w_zI508 w_zI509 w_zI510 w_zI519 w_aI611) t.heap ∧ KK D clsA G t) A) args s 0 0 A) (hP : PM D G ad σ H) (hS : va_S A s.heap H locs) (hl : lv_has ls 2 [(0, .ref (ad 500)), (1, .int x1)]) : W p l e rmM_endRead s m args below meth c0 H locs 0 0 Q (F0 m 0 ls []) := by
  obtain ⟨⟨hx, hb, hml, hown, hts⟩, hr, hlk⟩ := id E
  have hP := hP.to (sgM_endRead_self σ).symm
  unfold mo_endRead at hf
  refine lv_aload_n hx hb dX16_endRead_0 rfl (lv_at hl 0 rfl) ?_
  refine gM_11 E hK hP dX16_endRead_1 ?_
  refine lv_bipush hx hb dX16_endRead_4 bp_14 ?_
  refine lv_iload_n hx hb dX16_endRead_6 rfl (lv_at hl 1 rfl) ?_
  refine lv_iadd hx hb dX16_endRead_7 ?_
  obtain ⟨v1, hv1, hf⟩ := bdP hf
  refine p_iald hx hb hK hP dM_611 sgM_endRead_raI611 hv1 dX16_endRead_8 ?_
  refine lv_iconst hx hb dX16_endRead_9 ic_m1 ?_
  refine lv_icmp_eq (tgt := 19) hx hb dX16_endRead_10 (by decide) (fun c2 => ?_) (fun c2 => ?_)
  · have hf := ifT c2 hf
    refine lv_aload_n hx hb dX16_endRead_19 rfl (lv_at hl 0 rfl) ?_
    obtain ⟨⟨z3, z4, z5, z6⟩, u7, hf⟩ := bdP hf
    dsimp only at hf
    refine cM_take E hK hP hS hA sgM_endRead_rzI506 sgM_endRead_rzI507 sgM_endRead_rzI508 sgM_endRead_rzI509 sgM_endRead_rzI510 sgM_endRead_raI600 sgM_endRead_raI603 u7 ⟨Nat.le_of_ble_eq_true rfl, Nat.le_of_ble_eq_true rfl⟩ ⟨Nat.zero_le _, Nat.zero_le _⟩ hl.1 (Nat.le_of_ble_eq_true rfl) dX16_endRead_20 (fun H locs hP hS => ?_)
    rw [sgM_endRead_zI507, sgM_endRead_zI508, sgM_endRead_zI509, sgM_endRead_zI510] at hP
    refine lv_aload_n hx hb dX16_endRead_23 rfl (lv_at hl 0 rfl) ?_
    obtain ⟨⟨v8, z9, z10, z11⟩, u12, hf⟩ := bdP hf
    dsimp only at hf
    refine cM_spotRead E hK hP hS hA sgM_endRead_rzI504 sgM_endRead_rzI505 sgM_endRead_rzI508 sgM_endRead_rzI509 sgM_endRead_rzI510 sgM_endRead_rzI519 sgM_endRead_raI611 sgM_endRead_raI612 u12 ⟨Nat.le_of_ble_eq_true rfl, Nat.le_of_ble_eq_true rfl⟩ ⟨Nat.zero_le _, Nat.zero_le _⟩ hl.1 (Nat.le_of_ble_eq_true rfl) dX16_endRead_24 (fun H locs hP hS => ?_)
    rw [sgM_endRead_zI504, sgM_endRead_zI505, sgM_endRead_zI519] at hP
    refine lv_if_ne (tgt := 32) hx hb dX16_endRead_27 (by decide) (fun c13 => ?_) (fun c13 => ?_)
    · have hf := ifF c13 hf
      refine lv_aload_n hx hb dX16_endRead_32 rfl (lv_at hl 0 rfl) ?_
      refine gM_11 E hK hP dX16_endRead_33 ?_
      refine lv_bipush hx hb dX16_endRead_36 bp_14 ?_
      refine lv_iload_n hx hb dX16_endRead_38 rfl (lv_at hl 1 rfl) ?_
      refine lv_iadd hx hb dX16_endRead_39 ?_
      refine lv_aload_n hx hb dX16_endRead_40 rfl (lv_at hl 0 rfl) ?_
      refine gM_19 (v := z11) E hK hP sgM_endRead_rzI519 dX16_endRead_41 ?_
      obtain ⟨a14, ha14, hf⟩ := bdP hf
      refine p_iast hx hb hK hP hS (hA _ (PA_c dM_611)) dM_611 sgM_endRead_raI611 ha14 sgM_endRead_aI611 dX16_endRead_44 (fun H locs hP hS => ?_)
      refine lv_aload_n hx hb dX16_endRead_45 rfl (lv_at hl 0 rfl) ?_
      obtain ⟨⟨z15, z16, z17, z18⟩, u19, hf⟩ := bdP hf
      dsimp only at hf
      refine cM_take E hK hP hS hA sgM_endRead_rzI506 sgM_endRead_rzI507 sgM_endRead_rzI508 sgM_endRead_rzI509 sgM_endRead_rzI510 sgM_endRead_raI600 sgM_endRead_raI603 u19 ⟨Nat.le_of_ble_eq_true rfl, Nat.le_of_ble_eq_true rfl⟩ ⟨Nat.zero_le _, Nat.zero_le _⟩ hl.1 (Nat.le_of_ble_eq_true rfl) dX16_endRead_46 (fun H locs hP hS => ?_)
      rw [sgM_endRead_zI507, sgM_endRead_zI508, sgM_endRead_zI509, sgM_endRead_zI510] at hP
      refine lv_iconst hx hb dX16_endRead_49 ic_1 ?_
      cases hf
      rw [hQ]; exact p_zret hx hb hr hlk hK hP hS rfl dX16_endRead_50
    · have hf := ifT c13 hf
      refine lv_iconst hx hb dX16_endRead_30 ic_0 ?_
      cases hf
      rw [hQ]; exact p_zret hx hb hr hlk hK hP hS rfl dX16_endRead_31
  · have hf := ifF c2 hf
    refine lv_aload_n hx hb dX16_endRead_13 rfl (lv_at hl 0 rfl) ?_
    refine lv_iconst hx hb dX16_endRead_14 ic_3 ?_
    obtain ⟨⟨v20, z21, z22⟩, u23, hf⟩ := bdP hf
    dsimp only at hf
    refine cM_wrong E hK hP hS hA sgM_endRead_rzI504 sgM_endRead_rzI505 sgM_endRead_rzI510 u23 ⟨Nat.le_of_ble_eq_true rfl, Nat.le_of_ble_eq_true rfl⟩ ⟨Nat.zero_le _, Nat.zero_le _⟩ hl.1 (Nat.le_of_ble_eq_true rfl) dX16_endRead_15 (fun H locs hP hS => ?_)
    rw [sgM_endRead_zI504, sgM_endRead_zI505] at hP
    obtain ⟨v24, hv24, hf⟩ := bdP hf
    obtain ⟨hv24a, hv24b⟩ := retZ_some hv24
    subst hv24a
    cases hf
    rw [hQ]; exact p_zret hx hb hr hlk hK hP hS hv24b dX16_endRead_18
theorem kM_endRead (l : Launch) (D : va_G) (G : Nat → ClassId) (ad : Nat → Nat) (σ : Sto) {x1 : Int32} {r_ : Int32} {w_zI504 : Int32} {w_zI505 : Int32} {w_zI507 : Int32} {w_zI508 : Int32} {w_zI509 : Int32} {w_zI510 : Int32} {w_zI519 : Int32} {w_aI611 : Nat → Int32} (hf : mo_endRead (σ.1 504) (σ.1 505) (σ.1 506) (σ.1 507) (σ.1 508) (σ.1 509) (σ.1 510) (σ.1 519) (σ.2.2.1 600) (σ.2.2.1 603) (σ.2.2.1 611) (σ.2.2.1 612) x1 = some (r_, w_zI504, w_zI505, w_zI507, w_zI508, w_zI509, w_zI510, w_zI519, w_aI611)) : CtI l D clsA G dscM ad yX16_endRead (ws_ yX16_endRead cX16_endRead 2 (Option.some Jvm.ClassFile.FieldType.boolean)) rmM_endRead [.ref (ad 500), .int x1] σ r_ (sgM_endRead σ w_zI504 w_zI505 w_zI507 w_zI508 w_zI509 w_zI510 w_zI519 w_aI611) :=
  p_ctI (by decide +kernel) (Nat.le_of_ble_eq_true rfl) (fun p e s m below meth c0 ls A E hP hK hA hS hl => wkM_endRead E hK hA hf rfl hP hS hl)
theorem cM_endRead (E : EN p s m args meth c0 RX16 cc nL ret) (hK : KK D clsA G s) (hP : PM D G ad σ H) (hS : va_S A s.heap H locs) (hA : ∀ q, PA dscM ad s.heap.size q → A q) {x1 : Int32} {r_ : Int32} {w_zI504 : Int32} {w_zI505 : Int32} {w_zI507 : Int32} {w_zI508 : Int32} {w_zI509 : Int32} {w_zI510 : Int32} {w_zI519 : Int32} {w_aI611 : Nat → Int32} {z_fault : Int32} (e_zI504 : σ.1 504 = z_fault) {z_faultPlace : Int32} (e_zI505 : σ.1 505 = z_faultPlace) {z_stop : Int32} (e_zI506 : σ.1 506 = z_stop) {z_next : Int32} (e_zI507 : σ.1 507 = z_next) {z_kind : Int32} (e_zI508 : σ.1 508 = z_kind) {z_which : Int32} (e_zI509 : σ.1 509 = z_which) {z_at : Int32} (e_zI510 : σ.1 510 = z_at) {z_spot : Int32} (e_zI519 : σ.1 519 = z_spot) {a_tape : Nat → Int32} (e_aI600 : σ.2.2.1 600 = a_tape) {a_words : Nat → Int32} (e_aI603 : σ.2.2.1 603 = a_words) {a_many : Nat → Int32} (e_aI611 : σ.2.2.1 611 = a_many) {a_placeName : Nat → Int32} (e_aI612 : σ.2.2.1 612 = a_placeName) (hu : mo_endRead z_fault z_faultPlace z_stop z_next z_kind z_which z_at z_spot a_tape a_words a_many a_placeName x1 = some (r_, w_zI504, w_zI505, w_zI507, w_zI508, w_zI509, w_zI510, w_zI519, w_aI611)) (hR : rmM_endRead.frames + 1 ≤ R.frames ∧ 8 + (2 + 11) + rmM_endRead.locals ≤ R.locals) (hcs : cells ≤ R.cells ∧ slots ≤ R.slots) (hsz : ls.size = nL) (hW : (rest.map fun v => v.category).sum ≤ 8) (hdg : decode cc pc = .ok (.invokevirtual 228, 3)) (kk : ∀ (H1 : Heap) (locs1 : List Loc), PM D G ad (aI (zI (zI (zI (zI (zI (zI (zI σ 504 w_zI504) 505 w_zI505) 507 w_zI507) 508 w_zI508) 509 w_zI509) 510 w_zI510) 519 w_zI519) 611 w_aI611) H1 → va_S A s.heap H1 locs1 → W p l e R s m args below meth c0 H1 locs1 cells slots Q (F0 m (pc + 3) ls (.int r_ :: rest))) : W p l e R s m args below meth c0 H locs cells slots Q (F0 m pc ls (.int x1 :: .ref (ad 500) :: rest)) := by
  subst e_zI504
  subst e_zI505
  subst e_zI506
  subst e_zI507
  subst e_zI508
  subst e_zI509
  subst e_zI510
  subst e_zI519
  subst e_aI600
  subst e_aI603
  subst e_aI611
  subst e_aI612
  exact p_callI (As := [.int x1]) (rest := rest) E.1 hK hP hS hA (kM_endRead l D G ad σ hu) (cwV 1 E.1.2.2.2.2 (lw_V q1954 q1956 qs74 q142 q1957) rfl rfl rfl (by decide +kernel) hR) dM_500 rfl rfl rfl hsz rfl hW hdg hcs kk
/-! roadBetween(II)I -/
abbrev rmM_roadBetween : Room := { frames := 0, cells := 0, slots := 0, locals := 0 }
set_option maxHeartbeats 4000000 in
theorem wkM_roadBetween {x1 : Int32} {x2 : Int32} {r_ : Int32} (E : EN p s m args meth c0 RX16 cX16_roadBetween 5 (Option.some Jvm.ClassFile.FieldType.int)) (hK : KK D clsA G s) (hA : ∀ q, PA dscM ad s.heap.size q → A q) (hf : mo_roadBetween (σ.2.2.1 611) (σ.2.2.1 615) x1 x2 = some r_) (hQ : Q = MQ below (va_Qi (fun x (_ : Unit) => x = r_) (fun _ t => PM D G ad σ t.heap ∧ KK D clsA G t) A) args s 0 0 A) (hP : PM D G ad σ H) (hS : va_S A s.heap H locs) (hl : lv_has ls 5 [(0, .ref (ad 500)), (1, .int x1), (2, .int x2)]) : W p l e rmM_roadBetween s m args below meth c0 H locs 0 0 Q (F0 m 0 ls []) := by
  obtain ⟨⟨hx, hb, hml, hown, hts⟩, hr, hlk⟩ := id E
  unfold mo_roadBetween at hf
  refine lv_iconst hx hb dX16_roadBetween_0 ic_0 ?_
  refine lv_istore_n (lv' := [(3, .int 0), (0, .ref (ad 500)), (1, .int x1), (2, .int x2)]) hx hb dX16_roadBetween_1 rfl hl (by decide) rfl (fun ls hl => ?_)
  have LP2 : ∀ (st2 : Int32) (ex2 : (Int32) ⊕ (Unit)), loop (mo_roadBetween_L2 (σ.2.2.1 611) (σ.2.2.1 615) x1 x2) st2 = some ex2 → ∀ (H : Heap) (locs : List Loc), PM D G ad σ H → va_S A s.heap H locs → ∀ (ls : Array Slot), lv_has ls 5 [(0, .ref (ad 500)), (1, .int x1), (2, .int x2), (3, .int st2)] → (∀ (y14 : Int32), ex2 = (.inl y14) → ∀ (H : Heap) (locs : List Loc), PM D G ad σ H → va_S A s.heap H locs → ∀ (ls : Array Slot), lv_has ls 5 [(3, .int y14)] → W p l e rmM_roadBetween s m args below meth c0 H locs 0 0 Q (F0 m 71 ls [])) → (ex2 = (.inr ()) → ∀ (H : Heap) (locs : List Loc), PM D G ad σ H → va_S A s.heap H locs → ∀ (ls : Array Slot), lv_has ls 5 [] → W p l e rmM_roadBetween s m args below meth c0 H locs 0 0 Q (F0 m 79 ls [])) → W p l e rmM_roadBetween s m args below meth c0 H locs 0 0 Q (F0 m 2 ls []) := by
    refine loop_P (fun st2 ex2 o2 hf ih2 hx2 => ?_)
    obtain ⟨y1, rfl⟩ : ∃ z, z = st2 := ⟨_, rfl⟩
    intro H locs (hP : PM D G ad σ H) hS ls (hl : lv_has ls 5 [(0, .ref (ad 500)), (1, .int x1), (2, .int x2), (3, .int y1)]) KE2_0 KE2_1
    dsimp only [mo_roadBetween_L2] at hf
    refine lv_iload_n hx hb dX16_roadBetween_2 rfl (lv_at hl 3 rfl) ?_
    refine lv_aload_n hx hb dX16_roadBetween_3 rfl (lv_at hl 0 rfl) ?_
    refine gM_11 E hK hP dX16_roadBetween_4 ?_
    refine lv_bipush hx hb dX16_roadBetween_7 bp_10 ?_
    obtain ⟨v2, hv2, hf⟩ := bdP hf
    refine p_iald hx hb hK hP dM_611 rfl hv2 dX16_roadBetween_9 ?_
    refine lv_icmp_ge (tgt := 79) hx hb dX16_roadBetween_10 (by decide) (fun c3 => ?_) (fun c3 => ?_)
    · have hf := ifT c3 hf
      exact KE2_1  (hx2 _ (Option.some.inj hf).symm).symm H locs hP hS ls (lv_sub hl [] rfl)
    · have hf := ifF c3 hf
      refine lv_sipush hx hb dX16_roadBetween_13 sp_168 ?_
      refine lv_bipush hx hb dX16_roadBetween_16 bp_7 ?_
      refine lv_iload_n hx hb dX16_roadBetween_18 rfl (lv_at hl 3 rfl) ?_
      refine lv_imul hx hb dX16_roadBetween_19 ?_
      refine lv_iadd hx hb dX16_roadBetween_20 ?_
      obtain ⟨v4, hv4, hf⟩ := bdP hf
      refine nm_i (Option.some.inj hv4) ?_
      refine lv_istore (lv' := [(4, .int v4), (0, .ref (ad 500)), (1, .int x1), (2, .int x2), (3, .int y1)]) hx hb dX16_roadBetween_21 hl (by decide) rfl (fun ls hl => ?_)
      refine lv_aload_n hx hb dX16_roadBetween_23 rfl (lv_at hl 1 rfl) ?_
      refine gM_15 E hK hP dX16_roadBetween_24 ?_
      refine lv_iload hx hb dX16_roadBetween_27 (lv_at hl 0 rfl) ?_
      obtain ⟨v5, hv5, hf⟩ := bdP hf
      refine p_iald hx hb hK hP dM_615 rfl hv5 dX16_roadBetween_29 ?_
      refine lv_iload_n hx hb dX16_roadBetween_30 rfl (lv_at hl 2 rfl) ?_
      have J47 : mo_roadBetween_J47 (σ.2.2.1 615) x1 y1 x2 v4 = some o2 → ∀ (H : Heap) (locs : List Loc), PM D G ad σ H → va_S A s.heap H locs → ∀ (ls : Array Slot), lv_has ls 5 [(0, .ref (ad 500)), (1, .int x1), (2, .int x2), (3, .int y1), (4, .int v4)] → W p l e rmM_roadBetween s m args below meth c0 H locs 0 0 Q (F0 m 47 ls []) := by
        intro  hf H locs hP hS ls hl
        unfold mo_roadBetween_J47 at hf
        refine lv_aload_n hx hb dX16_roadBetween_47 rfl (lv_at hl 0 rfl) ?_
        refine gM_15 E hK hP dX16_roadBetween_48 ?_
        refine lv_iload hx hb dX16_roadBetween_51 (lv_at hl 4 rfl) ?_
        obtain ⟨v6, hv6, hf⟩ := bdP hf
        refine p_iald hx hb hK hP dM_615 rfl hv6 dX16_roadBetween_53 ?_
        refine lv_iload_n hx hb dX16_roadBetween_54 rfl (lv_at hl 2 rfl) ?_
        have J73 : mo_roadBetween_J73 y1 = some o2 → ∀ (H : Heap) (locs : List Loc), PM D G ad σ H → va_S A s.heap H locs → ∀ (ls : Array Slot), lv_has ls 5 [(0, .ref (ad 500)), (1, .int x1), (2, .int x2), (3, .int y1)] → W p l e rmM_roadBetween s m args below meth c0 H locs 0 0 Q (F0 m 73 ls []) := by
          intro  hf H locs hP hS ls hl
          unfold mo_roadBetween_J73 at hf
          obtain ⟨v7, hv7, hf⟩ := bdP hf
          refine lv_iinc (v := v7) (lv' := [(3, .int v7), (0, .ref (ad 500)), (1, .int x1), (2, .int x2)]) hx hb dX16_roadBetween_73 hl (k := 3) rfl (Option.some.inj hv7) (by decide) rfl (fun ls hl => ?_)
          refine lv_goto (tgt := 2) hx hb dX16_roadBetween_76 (by decide) ?_
          exact ih2 _ (Option.some.inj hf).symm H locs hP hS ls (lv_sub hl [1, 2, 3, 0] rfl) KE2_0 KE2_1
        refine lv_icmp_ne (tgt := 73) hx hb dX16_roadBetween_55 (by decide) (fun c8 => ?_) (fun c8 => ?_)
        · have hf := ifF c8 hf
          exact J73  hf H locs hP hS ls (lv_sub hl [0, 1, 2, 3] rfl)
        · have hf := ifT c8 hf
          refine lv_aload_n hx hb dX16_roadBetween_58 rfl (lv_at hl 0 rfl) ?_
          refine gM_15 E hK hP dX16_roadBetween_59 ?_
          refine lv_iload hx hb dX16_roadBetween_62 (lv_at hl 4 rfl) ?_
          refine lv_iconst hx hb dX16_roadBetween_64 ic_1 ?_
          refine lv_iadd hx hb dX16_roadBetween_65 ?_
          obtain ⟨v9, hv9, hf⟩ := bdP hf
          refine p_iald hx hb hK hP dM_615 rfl hv9 dX16_roadBetween_66 ?_
          refine lv_iload_n hx hb dX16_roadBetween_67 rfl (lv_at hl 1 rfl) ?_
          refine lv_icmp_ne (tgt := 73) hx hb dX16_roadBetween_68 (by decide) (fun c10 => ?_) (fun c10 => ?_)
          · have hf := ifF c10 hf
            exact J73  hf H locs hP hS ls (lv_sub hl [0, 1, 2, 3] rfl)
          · have hf := ifT c10 hf
            exact KE2_0 _ (hx2 _ (Option.some.inj hf).symm).symm H locs hP hS ls (lv_sub hl [3] rfl)
      refine lv_icmp_ne (tgt := 47) hx hb dX16_roadBetween_31 (by decide) (fun c11 => ?_) (fun c11 => ?_)
      · have hf := ifF c11 hf
        exact J47  hf H locs hP hS ls (lv_sub hl [1, 2, 3, 4, 0] rfl)
      · have hf := ifT c11 hf
        refine lv_aload_n hx hb dX16_roadBetween_34 rfl (lv_at hl 1 rfl) ?_
        refine gM_15 E hK hP dX16_roadBetween_35 ?_
        refine lv_iload hx hb dX16_roadBetween_38 (lv_at hl 0 rfl) ?_
        refine lv_iconst hx hb dX16_roadBetween_40 ic_1 ?_
        refine lv_iadd hx hb dX16_roadBetween_41 ?_
        obtain ⟨v12, hv12, hf⟩ := bdP hf
        refine p_iald hx hb hK hP dM_615 rfl hv12 dX16_roadBetween_42 ?_
        refine lv_iload_n hx hb dX16_roadBetween_43 rfl (lv_at hl 3 rfl) ?_
        refine lv_icmp_eq (tgt := 71) hx hb dX16_roadBetween_44 (by decide) (fun c13 => ?_) (fun c13 => ?_)
        · have hf := ifT c13 hf
          exact KE2_0 _ (hx2 _ (Option.some.inj hf).symm).symm H locs hP hS ls (lv_sub hl [4] rfl)
        · have hf := ifF c13 hf
          exact J47  hf H locs hP hS ls (lv_sub hl [1, 2, 3, 4, 0] rfl)
  obtain ⟨ex2, hlp2, hf⟩ := bdP hf
  refine LP2 0 ex2 hlp2 H locs hP hS ls (lv_sub hl [1, 2, 3, 0] rfl) ?_ ?_
  · intro y14 hex2 H locs hP hS ls hl
    subst ex2
    dsimp only [sE_l, sE_r] at hf
    refine lv_iload_n hx hb dX16_roadBetween_71 rfl (lv_at hl 0 rfl) ?_
    cases hf
    rw [hQ]; exact p_iret hx hb hr hlk hK hP hS dX16_roadBetween_72
  · intro  hex2 H locs hP hS ls hl
    subst ex2
    dsimp only [sE_l, sE_r] at hf
    refine lv_iconst hx hb dX16_roadBetween_79 ic_m1 ?_
    cases hf
    rw [hQ]; exact p_iret hx hb hr hlk hK hP hS dX16_roadBetween_80
theorem kM_roadBetween (l : Launch) (D : va_G) (G : Nat → ClassId) (ad : Nat → Nat) (σ : Sto) {x1 : Int32} {x2 : Int32} {r_ : Int32} (hf : mo_roadBetween (σ.2.2.1 611) (σ.2.2.1 615) x1 x2 = some r_) : CtI l D clsA G dscM ad yX16_roadBetween (ws_ yX16_roadBetween cX16_roadBetween 5 (Option.some Jvm.ClassFile.FieldType.int)) rmM_roadBetween [.ref (ad 500), .int x1, .int x2] σ r_ σ :=
  p_ctI (by decide +kernel) (Nat.le_of_ble_eq_true rfl) (fun p e s m below meth c0 ls A E hP hK hA hS hl => wkM_roadBetween E hK hA hf rfl hP hS hl)
theorem cM_roadBetween (E : EN p s m args meth c0 RX16 cc nL ret) (hK : KK D clsA G s) (hP : PM D G ad σ H) (hS : va_S A s.heap H locs) (hA : ∀ q, PA dscM ad s.heap.size q → A q) {x1 : Int32} {x2 : Int32} {r_ : Int32} {a_many : Nat → Int32} (e_aI611 : σ.2.2.1 611 = a_many) {a_road : Nat → Int32} (e_aI615 : σ.2.2.1 615 = a_road) (hu : mo_roadBetween a_many a_road x1 x2 = some r_) (hR : rmM_roadBetween.frames + 1 ≤ R.frames ∧ 8 + (5 + 11) + rmM_roadBetween.locals ≤ R.locals) (hcs : cells ≤ R.cells ∧ slots ≤ R.slots) (hsz : ls.size = nL) (hW : (rest.map fun v => v.category).sum ≤ 8) (hdg : decode cc pc = .ok (.invokevirtual 200, 3)) (kk : ∀ (H1 : Heap) (locs1 : List Loc), PM D G ad σ H1 → va_S A s.heap H1 locs1 → W p l e R s m args below meth c0 H1 locs1 cells slots Q (F0 m (pc + 3) ls (.int r_ :: rest))) : W p l e R s m args below meth c0 H locs cells slots Q (F0 m pc ls (.int x2 :: .int x1 :: .ref (ad 500) :: rest)) := by
  subst e_aI611
  subst e_aI615
  exact p_callI (As := [.int x1, .int x2]) (rest := rest) E.1 hK hP hS hA (kM_roadBetween l D G ad σ hu) (cwV 2 E.1.2.2.2.2 (lw_V q1930 q1932 qs68 q142 q1933) rfl rfl rfl (by decide +kernel) hR) dM_500 rfl rfl rfl hsz rfl hW hdg hcs kk
/-! seenRead()I -/
def sgM_seenRead (σ : Sto) (w0 : Int32) (w1 : Int32) (w2 : Int32) (w3 : Int32) (w4 : Int32) (w5 : Int32) (w6 : Int32) : Sto := zI (zI (zI (zI (zI (zI (zI σ 504 w0) 505 w1) 507 w2) 508 w3) 509 w4) 510 w5) 519 w6
theorem sgM_seenRead_self (σ : Sto) : sgM_seenRead σ (σ.1 504) (σ.1 505) (σ.1 507) (σ.1 508) (σ.1 509) (σ.1 510) (σ.1 519) = σ := by
  unfold sgM_seenRead
  simp only [zI_self, zL_self, aI_self, aL_self]
theorem sgM_seenRead_zI504 {σ : Sto} {w0 : Int32} {w1 : Int32} {w2 : Int32} {w3 : Int32} {w4 : Int32} {w5 : Int32} {w6 : Int32} {g : Int32} : zI (sgM_seenRead σ w0 w1 w2 w3 w4 w5 w6) 504 g = sgM_seenRead σ g w1 w2 w3 w4 w5 w6 := (zI_comm _ (by decide) _ _).trans (congrArg (fun z => zI z 519 w6) ((zI_comm _ (by decide) _ _).trans (congrArg (fun z => zI z 510 w5) ((zI_comm _ (by decide) _ _).trans (congrArg (fun z => zI z 509 w4) ((zI_comm _ (by decide) _ _).trans (congrArg (fun z => zI z 508 w3) ((zI_comm _ (by decide) _ _).trans (congrArg (fun z => zI z 507 w2) ((zI_comm _ (by decide) _ _).trans (congrArg (fun z => zI z 505 w1) (zI_zI _ 504 _ _))))))))))))
theorem sgM_seenRead_zI505 {σ : Sto} {w0 : Int32} {w1 : Int32} {w2 : Int32} {w3 : Int32} {w4 : Int32} {w5 : Int32} {w6 : Int32} {g : Int32} : zI (sgM_seenRead σ w0 w1 w2 w3 w4 w5 w6) 505 g = sgM_seenRead σ w0 g w2 w3 w4 w5 w6 := (zI_comm _ (by decide) _ _).trans (congrArg (fun z => zI z 519 w6) ((zI_comm _ (by decide) _ _).trans (congrArg (fun z => zI z 510 w5) ((zI_comm _ (by decide) _ _).trans (congrArg (fun z => zI z 509 w4) ((zI_comm _ (by decide) _ _).trans (congrArg (fun z => zI z 508 w3) ((zI_comm _ (by decide) _ _).trans (congrArg (fun z => zI z 507 w2) (zI_zI _ 505 _ _))))))))))
theorem sgM_seenRead_zI507 {σ : Sto} {w0 : Int32} {w1 : Int32} {w2 : Int32} {w3 : Int32} {w4 : Int32} {w5 : Int32} {w6 : Int32} {g : Int32} : zI (sgM_seenRead σ w0 w1 w2 w3 w4 w5 w6) 507 g = sgM_seenRead σ w0 w1 g w3 w4 w5 w6 := (zI_comm _ (by decide) _ _).trans (congrArg (fun z => zI z 519 w6) ((zI_comm _ (by decide) _ _).trans (congrArg (fun z => zI z 510 w5) ((zI_comm _ (by decide) _ _).trans (congrArg (fun z => zI z 509 w4) ((zI_comm _ (by decide) _ _).trans (congrArg (fun z => zI z 508 w3) (zI_zI _ 507 _ _))))))))
theorem sgM_seenRead_zI508 {σ : Sto} {w0 : Int32} {w1 : Int32} {w2 : Int32} {w3 : Int32} {w4 : Int32} {w5 : Int32} {w6 : Int32} {g : Int32} : zI (sgM_seenRead σ w0 w1 w2 w3 w4 w5 w6) 508 g = sgM_seenRead σ w0 w1 w2 g w4 w5 w6 := (zI_comm _ (by decide) _ _).trans (congrArg (fun z => zI z 519 w6) ((zI_comm _ (by decide) _ _).trans (congrArg (fun z => zI z 510 w5) ((zI_comm _ (by decide) _ _).trans (congrArg (fun z => zI z 509 w4) (zI_zI _ 508 _ _))))))
theorem sgM_seenRead_zI509 {σ : Sto} {w0 : Int32} {w1 : Int32} {w2 : Int32} {w3 : Int32} {w4 : Int32} {w5 : Int32} {w6 : Int32} {g : Int32} : zI (sgM_seenRead σ w0 w1 w2 w3 w4 w5 w6) 509 g = sgM_seenRead σ w0 w1 w2 w3 g w5 w6 := (zI_comm _ (by decide) _ _).trans (congrArg (fun z => zI z 519 w6) ((zI_comm _ (by decide) _ _).trans (congrArg (fun z => zI z 510 w5) (zI_zI _ 509 _ _))))
theorem sgM_seenRead_zI510 {σ : Sto} {w0 : Int32} {w1 : Int32} {w2 : Int32} {w3 : Int32} {w4 : Int32} {w5 : Int32} {w6 : Int32} {g : Int32} : zI (sgM_seenRead σ w0 w1 w2 w3 w4 w5 w6) 510 g = sgM_seenRead σ w0 w1 w2 w3 w4 g w6 := (zI_comm _ (by decide) _ _).trans (congrArg (fun z => zI z 519 w6) (zI_zI _ 510 _ _))
theorem sgM_seenRead_zI519 {σ : Sto} {w0 : Int32} {w1 : Int32} {w2 : Int32} {w3 : Int32} {w4 : Int32} {w5 : Int32} {w6 : Int32} {g : Int32} : zI (sgM_seenRead σ w0 w1 w2 w3 w4 w5 w6) 519 g = sgM_seenRead σ w0 w1 w2 w3 w4 w5 g := zI_zI _ 519 _ _
theorem sgM_seenRead_rzI504 {σ : Sto} {w0 : Int32} {w1 : Int32} {w2 : Int32} {w3 : Int32} {w4 : Int32} {w5 : Int32} {w6 : Int32} : (sgM_seenRead σ w0 w1 w2 w3 w4 w5 w6).1 504 = w0 := rfl
theorem sgM_seenRead_rzI505 {σ : Sto} {w0 : Int32} {w1 : Int32} {w2 : Int32} {w3 : Int32} {w4 : Int32} {w5 : Int32} {w6 : Int32} : (sgM_seenRead σ w0 w1 w2 w3 w4 w5 w6).1 505 = w1 := rfl
theorem sgM_seenRead_rzI506 {σ : Sto} {w0 : Int32} {w1 : Int32} {w2 : Int32} {w3 : Int32} {w4 : Int32} {w5 : Int32} {w6 : Int32} : (sgM_seenRead σ w0 w1 w2 w3 w4 w5 w6).1 506 = σ.1 506 := rfl
theorem sgM_seenRead_rzI507 {σ : Sto} {w0 : Int32} {w1 : Int32} {w2 : Int32} {w3 : Int32} {w4 : Int32} {w5 : Int32} {w6 : Int32} : (sgM_seenRead σ w0 w1 w2 w3 w4 w5 w6).1 507 = w2 := rfl
theorem sgM_seenRead_rzI508 {σ : Sto} {w0 : Int32} {w1 : Int32} {w2 : Int32} {w3 : Int32} {w4 : Int32} {w5 : Int32} {w6 : Int32} : (sgM_seenRead σ w0 w1 w2 w3 w4 w5 w6).1 508 = w3 := rfl
theorem sgM_seenRead_rzI509 {σ : Sto} {w0 : Int32} {w1 : Int32} {w2 : Int32} {w3 : Int32} {w4 : Int32} {w5 : Int32} {w6 : Int32} : (sgM_seenRead σ w0 w1 w2 w3 w4 w5 w6).1 509 = w4 := rfl
theorem sgM_seenRead_rzI510 {σ : Sto} {w0 : Int32} {w1 : Int32} {w2 : Int32} {w3 : Int32} {w4 : Int32} {w5 : Int32} {w6 : Int32} : (sgM_seenRead σ w0 w1 w2 w3 w4 w5 w6).1 510 = w5 := rfl
theorem sgM_seenRead_rzI519 {σ : Sto} {w0 : Int32} {w1 : Int32} {w2 : Int32} {w3 : Int32} {w4 : Int32} {w5 : Int32} {w6 : Int32} : (sgM_seenRead σ w0 w1 w2 w3 w4 w5 w6).1 519 = w6 := rfl
theorem sgM_seenRead_raI600 {σ : Sto} {w0 : Int32} {w1 : Int32} {w2 : Int32} {w3 : Int32} {w4 : Int32} {w5 : Int32} {w6 : Int32} : (sgM_seenRead σ w0 w1 w2 w3 w4 w5 w6).2.2.1 600 = σ.2.2.1 600 := rfl
theorem sgM_seenRead_raI603 {σ : Sto} {w0 : Int32} {w1 : Int32} {w2 : Int32} {w3 : Int32} {w4 : Int32} {w5 : Int32} {w6 : Int32} : (sgM_seenRead σ w0 w1 w2 w3 w4 w5 w6).2.2.1 603 = σ.2.2.1 603 := rfl
theorem sgM_seenRead_raI611 {σ : Sto} {w0 : Int32} {w1 : Int32} {w2 : Int32} {w3 : Int32} {w4 : Int32} {w5 : Int32} {w6 : Int32} : (sgM_seenRead σ w0 w1 w2 w3 w4 w5 w6).2.2.1 611 = σ.2.2.1 611 := rfl
theorem sgM_seenRead_raI612 {σ : Sto} {w0 : Int32} {w1 : Int32} {w2 : Int32} {w3 : Int32} {w4 : Int32} {w5 : Int32} {w6 : Int32} : (sgM_seenRead σ w0 w1 w2 w3 w4 w5 w6).2.2.1 612 = σ.2.2.1 612 := rfl
theorem sgM_seenRead_raI615 {σ : Sto} {w0 : Int32} {w1 : Int32} {w2 : Int32} {w3 : Int32} {w4 : Int32} {w5 : Int32} {w6 : Int32} : (sgM_seenRead σ w0 w1 w2 w3 w4 w5 w6).2.2.1 615 = σ.2.2.1 615 := rfl
abbrev rmM_seenRead : Room := { frames := 2, cells := 0, slots := 0, locals := 47 }
set_option maxHeartbeats 4000000 in
theorem wkM_seenRead  {r_ : Int32} {w_zI504 : Int32} {w_zI505 : Int32} {w_zI507 : Int32} {w_zI508 : Int32} {w_zI509 : Int32} {w_zI510 : Int32} {w_zI519 : Int32} (E : EN p s m args meth c0 RX16 cX16_seenRead 5 (Option.some Jvm.ClassFile.FieldType.int)) (hK : KK D clsA G s) (hA : ∀ q, PA dscM ad s.heap.size q → A q) (hf : mo_seenRead (σ.1 504) (σ.1 505) (σ.1 506) (σ.1 507) (σ.1 508) (σ.1 509) (σ.1 510) (σ.1 519) (σ.2.2.1 600) (σ.2.2.1 603) (σ.2.2.1 611) (σ.2.2.1 612) (σ.2.2.1 615) = some (r_, w_zI504, w_zI505, w_zI507, w_zI508, w_zI509, w_zI510, w_zI519)) (hQ : Q = MQ below (va_Qi (fun x (_ : Unit) => x = r_) (fun _ t => PM D G ad (sgM_seenRead σ w_zI504 w_zI505 w_zI507 w_zI508 w_zI509 w_zI510 w_zI519) t.heap ∧ KK D clsA G t) A) args s 0 0 A) (hP : PM D G ad σ H) (hS : va_S A s.heap H locs) (hl : lv_has ls 5 [(0, .ref (ad 500))]) : W p l e rmM_seenRead s m args below meth c0 H locs 0 0 Q (F0 m 0 ls []) := by
  obtain ⟨⟨hx, hb, hml, hown, hts⟩, hr, hlk⟩ := id E
  have hP := hP.to (sgM_seenRead_self σ).symm
  unfold mo_seenRead at hf
  refine lv_aload_n hx hb dX16_seenRead_0 rfl (lv_at hl 0 rfl) ?_
  obtain ⟨⟨z1, z2, z3, z4⟩, u5, hf⟩ := bdP hf
  dsimp only at hf
  refine cM_take E hK hP hS hA sgM_seenRead_rzI506 sgM_seenRead_rzI507 sgM_seenRead_rzI508 sgM_seenRead_rzI509 sgM_seenRead_rzI510 sgM_seenRead_raI600 sgM_seenRead_raI603 u5 ⟨Nat.le_of_ble_eq_true rfl, Nat.le_of_ble_eq_true rfl⟩ ⟨Nat.zero_le _, Nat.zero_le _⟩ hl.1 (Nat.le_of_ble_eq_true rfl) dX16_seenRead_1 (fun H locs hP hS => ?_)
  rw [sgM_seenRead_zI507, sgM_seenRead_zI508, sgM_seenRead_zI509, sgM_seenRead_zI510] at hP
  refine lv_aload_n hx hb dX16_seenRead_4 rfl (lv_at hl 0 rfl) ?_
  obtain ⟨⟨v6, z7, z8, z9⟩, u10, hf⟩ := bdP hf
  dsimp only at hf
  refine cM_spotRead E hK hP hS hA sgM_seenRead_rzI504 sgM_seenRead_rzI505 sgM_seenRead_rzI508 sgM_seenRead_rzI509 sgM_seenRead_rzI510 sgM_seenRead_rzI519 sgM_seenRead_raI611 sgM_seenRead_raI612 u10 ⟨Nat.le_of_ble_eq_true rfl, Nat.le_of_ble_eq_true rfl⟩ ⟨Nat.zero_le _, Nat.zero_le _⟩ hl.1 (Nat.le_of_ble_eq_true rfl) dX16_seenRead_5 (fun H locs hP hS => ?_)
  rw [sgM_seenRead_zI504, sgM_seenRead_zI505, sgM_seenRead_zI519] at hP
  refine lv_if_ne (tgt := 13) hx hb dX16_seenRead_8 (by decide) (fun c11 => ?_) (fun c11 => ?_)
  · have hf := ifF c11 hf
    refine lv_aload_n hx hb dX16_seenRead_13 rfl (lv_at hl 0 rfl) ?_
    refine gM_19 (v := z9) E hK hP sgM_seenRead_rzI519 dX16_seenRead_14 ?_
    refine lv_istore_n (lv' := [(1, .int z9), (0, .ref (ad 500))]) hx hb dX16_seenRead_17 rfl hl (by decide) rfl (fun ls hl => ?_)
    refine lv_aload_n hx hb dX16_seenRead_18 rfl (lv_at hl 1 rfl) ?_
    obtain ⟨⟨z12, z13, z14, z15⟩, u16, hf⟩ := bdP hf
    dsimp only at hf
    refine cM_take E hK hP hS hA sgM_seenRead_rzI506 sgM_seenRead_rzI507 sgM_seenRead_rzI508 sgM_seenRead_rzI509 sgM_seenRead_rzI510 sgM_seenRead_raI600 sgM_seenRead_raI603 u16 ⟨Nat.le_of_ble_eq_true rfl, Nat.le_of_ble_eq_true rfl⟩ ⟨Nat.zero_le _, Nat.zero_le _⟩ hl.1 (Nat.le_of_ble_eq_true rfl) dX16_seenRead_19 (fun H locs hP hS => ?_)
    rw [sgM_seenRead_zI507, sgM_seenRead_zI508, sgM_seenRead_zI509, sgM_seenRead_zI510] at hP
    refine lv_aload_n hx hb dX16_seenRead_22 rfl (lv_at hl 1 rfl) ?_
    obtain ⟨⟨v17, z18, z19, z20⟩, u21, hf⟩ := bdP hf
    dsimp only at hf
    refine cM_spotRead E hK hP hS hA sgM_seenRead_rzI504 sgM_seenRead_rzI505 sgM_seenRead_rzI508 sgM_seenRead_rzI509 sgM_seenRead_rzI510 sgM_seenRead_rzI519 sgM_seenRead_raI611 sgM_seenRead_raI612 u21 ⟨Nat.le_of_ble_eq_true rfl, Nat.le_of_ble_eq_true rfl⟩ ⟨Nat.zero_le _, Nat.zero_le _⟩ hl.1 (Nat.le_of_ble_eq_true rfl) dX16_seenRead_23 (fun H locs hP hS => ?_)
    rw [sgM_seenRead_zI504, sgM_seenRead_zI505, sgM_seenRead_zI519] at hP
    refine lv_if_ne (tgt := 31) hx hb dX16_seenRead_26 (by decide) (fun c22 => ?_) (fun c22 => ?_)
    · have hf := ifF c22 hf
      refine lv_aload_n hx hb dX16_seenRead_31 rfl (lv_at hl 1 rfl) ?_
      refine gM_19 (v := z20) E hK hP sgM_seenRead_rzI519 dX16_seenRead_32 ?_
      refine lv_istore_n (lv' := [(2, .int z20), (1, .int z9), (0, .ref (ad 500))]) hx hb dX16_seenRead_35 rfl hl (by decide) rfl (fun ls hl => ?_)
      refine lv_aload_n hx hb dX16_seenRead_36 rfl (lv_at hl 2 rfl) ?_
      obtain ⟨⟨z23, z24, z25, z26⟩, u27, hf⟩ := bdP hf
      dsimp only at hf
      refine cM_take E hK hP hS hA sgM_seenRead_rzI506 sgM_seenRead_rzI507 sgM_seenRead_rzI508 sgM_seenRead_rzI509 sgM_seenRead_rzI510 sgM_seenRead_raI600 sgM_seenRead_raI603 u27 ⟨Nat.le_of_ble_eq_true rfl, Nat.le_of_ble_eq_true rfl⟩ ⟨Nat.zero_le _, Nat.zero_le _⟩ hl.1 (Nat.le_of_ble_eq_true rfl) dX16_seenRead_37 (fun H locs hP hS => ?_)
      rw [sgM_seenRead_zI507, sgM_seenRead_zI508, sgM_seenRead_zI509, sgM_seenRead_zI510] at hP
      refine lv_aload_n hx hb dX16_seenRead_40 rfl (lv_at hl 2 rfl) ?_
      obtain ⟨⟨v28, z29, z30, z31⟩, u32, hf⟩ := bdP hf
      dsimp only at hf
      refine cM_spotRead E hK hP hS hA sgM_seenRead_rzI504 sgM_seenRead_rzI505 sgM_seenRead_rzI508 sgM_seenRead_rzI509 sgM_seenRead_rzI510 sgM_seenRead_rzI519 sgM_seenRead_raI611 sgM_seenRead_raI612 u32 ⟨Nat.le_of_ble_eq_true rfl, Nat.le_of_ble_eq_true rfl⟩ ⟨Nat.zero_le _, Nat.zero_le _⟩ hl.1 (Nat.le_of_ble_eq_true rfl) dX16_seenRead_41 (fun H locs hP hS => ?_)
      rw [sgM_seenRead_zI504, sgM_seenRead_zI505, sgM_seenRead_zI519] at hP
      refine lv_if_ne (tgt := 49) hx hb dX16_seenRead_44 (by decide) (fun c33 => ?_) (fun c33 => ?_)
      · have hf := ifF c33 hf
        refine lv_aload_n hx hb dX16_seenRead_49 rfl (lv_at hl 2 rfl) ?_
        refine lv_iload_n hx hb dX16_seenRead_50 rfl (lv_at hl 0 rfl) ?_
        refine lv_aload_n hx hb dX16_seenRead_51 rfl (lv_at hl 2 rfl) ?_
        refine gM_19 (v := z31) E hK hP sgM_seenRead_rzI519 dX16_seenRead_52 ?_
        obtain ⟨v34, u35, hf⟩ := bdP hf
        refine cM_roadBetween E hK hP hS hA sgM_seenRead_raI611 sgM_seenRead_raI615 u35 ⟨Nat.le_of_ble_eq_true rfl, Nat.le_of_ble_eq_true rfl⟩ ⟨Nat.zero_le _, Nat.zero_le _⟩ hl.1 (Nat.le_of_ble_eq_true rfl) dX16_seenRead_55 (fun H locs hP hS => ?_)
        refine lv_istore_n (lv' := [(3, .int v34), (2, .int z20), (1, .int z9), (0, .ref (ad 500))]) hx hb dX16_seenRead_58 rfl hl (by decide) rfl (fun ls hl => ?_)
        refine lv_iload_n hx hb dX16_seenRead_59 rfl (lv_at hl 0 rfl) ?_
        have J82 : mo_seenRead_J82 z23 z24 z25 z26 z29 z30 z31 = some (r_, w_zI504, w_zI505, w_zI507, w_zI508, w_zI509, w_zI510, w_zI519) → ∀ (H : Heap) (locs : List Loc), PM D G ad (sgM_seenRead σ z29 z30 z23 z24 z25 z26 z31) H → va_S A s.heap H locs → ∀ (ls : Array Slot), lv_has ls 5 [(0, .ref (ad 500))] → W p l e rmM_seenRead s m args below meth c0 H locs 0 0 Q (F0 m 82 ls []) := by
          intro  hf H locs hP hS ls hl
          unfold mo_seenRead_J82 at hf
          refine lv_aload_n hx hb dX16_seenRead_82 rfl (lv_at hl 0 rfl) ?_
          refine lv_iconst hx hb dX16_seenRead_83 ic_4 ?_
          obtain ⟨⟨v36, z37, z38⟩, u39, hf⟩ := bdP hf
          dsimp only at hf
          refine cM_wrong E hK hP hS hA sgM_seenRead_rzI504 sgM_seenRead_rzI505 sgM_seenRead_rzI510 u39 ⟨Nat.le_of_ble_eq_true rfl, Nat.le_of_ble_eq_true rfl⟩ ⟨Nat.zero_le _, Nat.zero_le _⟩ hl.1 (Nat.le_of_ble_eq_true rfl) dX16_seenRead_84 (fun H locs hP hS => ?_)
          rw [sgM_seenRead_zI504, sgM_seenRead_zI505] at hP
          refine lv_istore (lv' := [(4, .int v36), (0, .ref (ad 500))]) hx hb dX16_seenRead_87 hl (by decide) rfl (fun ls hl => ?_)
          refine lv_iconst hx hb dX16_seenRead_89 ic_m1 ?_
          cases hf
          rw [hQ]; exact p_iret hx hb hr hlk hK hP hS dX16_seenRead_90
        refine lv_if_lt (tgt := 82) hx hb dX16_seenRead_60 (by decide) (fun c40 => ?_) (fun c40 => ?_)
        · have hf := ifT c40 hf
          exact J82  hf H locs hP hS ls (lv_sub hl [3] rfl)
        · have hf := ifF c40 hf
          refine lv_aload_n hx hb dX16_seenRead_63 rfl (lv_at hl 3 rfl) ?_
          refine gM_15 E hK hP dX16_seenRead_64 ?_
          refine lv_sipush hx hb dX16_seenRead_67 sp_168 ?_
          refine lv_bipush hx hb dX16_seenRead_70 bp_7 ?_
          refine lv_iload_n hx hb dX16_seenRead_72 rfl (lv_at hl 0 rfl) ?_
          refine lv_imul hx hb dX16_seenRead_73 ?_
          refine lv_iadd hx hb dX16_seenRead_74 ?_
          refine lv_bipush hx hb dX16_seenRead_75 bp_6 ?_
          refine lv_iadd hx hb dX16_seenRead_77 ?_
          obtain ⟨v41, hv41, hf⟩ := bdP hf
          refine p_iald hx hb hK hP dM_615 sgM_seenRead_raI615 hv41 dX16_seenRead_78 ?_
          refine lv_if_ge (tgt := 91) hx hb dX16_seenRead_79 (by decide) (fun c42 => ?_) (fun c42 => ?_)
          · have hf := ifT c42 hf
            refine lv_aload_n hx hb dX16_seenRead_91 rfl (lv_at hl 3 rfl) ?_
            obtain ⟨⟨z43, z44, z45, z46⟩, u47, hf⟩ := bdP hf
            dsimp only at hf
            refine cM_take E hK hP hS hA sgM_seenRead_rzI506 sgM_seenRead_rzI507 sgM_seenRead_rzI508 sgM_seenRead_rzI509 sgM_seenRead_rzI510 sgM_seenRead_raI600 sgM_seenRead_raI603 u47 ⟨Nat.le_of_ble_eq_true rfl, Nat.le_of_ble_eq_true rfl⟩ ⟨Nat.zero_le _, Nat.zero_le _⟩ hl.1 (Nat.le_of_ble_eq_true rfl) dX16_seenRead_92 (fun H locs hP hS => ?_)
            rw [sgM_seenRead_zI507, sgM_seenRead_zI508, sgM_seenRead_zI509, sgM_seenRead_zI510] at hP
            refine lv_bipush hx hb dX16_seenRead_95 bp_6 ?_
            refine lv_iload_n hx hb dX16_seenRead_97 rfl (lv_at hl 2 rfl) ?_
            refine lv_imul hx hb dX16_seenRead_98 ?_
            refine lv_aload_n hx hb dX16_seenRead_99 rfl (lv_at hl 3 rfl) ?_
            refine gM_15 E hK hP dX16_seenRead_100 ?_
            refine lv_sipush hx hb dX16_seenRead_103 sp_168 ?_
            refine lv_bipush hx hb dX16_seenRead_106 bp_7 ?_
            refine lv_iload_n hx hb dX16_seenRead_108 rfl (lv_at hl 0 rfl) ?_
            refine lv_imul hx hb dX16_seenRead_109 ?_
            refine lv_iadd hx hb dX16_seenRead_110 ?_
            refine lv_bipush hx hb dX16_seenRead_111 bp_6 ?_
            refine lv_iadd hx hb dX16_seenRead_113 ?_
            obtain ⟨v48, hv48, hf⟩ := bdP hf
            refine p_iald hx hb hK hP dM_615 sgM_seenRead_raI615 hv48 dX16_seenRead_114 ?_
            refine lv_iadd hx hb dX16_seenRead_115 ?_
            cases hf
            rw [hQ]; exact p_iret hx hb hr hlk hK hP hS dX16_seenRead_116
          · have hf := ifF c42 hf
            exact J82  hf H locs hP hS ls (lv_sub hl [3] rfl)
      · have hf := ifT c33 hf
        refine lv_iconst hx hb dX16_seenRead_47 ic_m1 ?_
        cases hf
        rw [hQ]; exact p_iret hx hb hr hlk hK hP hS dX16_seenRead_48
    · have hf := ifT c22 hf
      refine lv_iconst hx hb dX16_seenRead_29 ic_m1 ?_
      cases hf
      rw [hQ]; exact p_iret hx hb hr hlk hK hP hS dX16_seenRead_30
  · have hf := ifT c11 hf
    refine lv_iconst hx hb dX16_seenRead_11 ic_m1 ?_
    cases hf
    rw [hQ]; exact p_iret hx hb hr hlk hK hP hS dX16_seenRead_12
theorem kM_seenRead (l : Launch) (D : va_G) (G : Nat → ClassId) (ad : Nat → Nat) (σ : Sto) {r_ : Int32} {w_zI504 : Int32} {w_zI505 : Int32} {w_zI507 : Int32} {w_zI508 : Int32} {w_zI509 : Int32} {w_zI510 : Int32} {w_zI519 : Int32} (hf : mo_seenRead (σ.1 504) (σ.1 505) (σ.1 506) (σ.1 507) (σ.1 508) (σ.1 509) (σ.1 510) (σ.1 519) (σ.2.2.1 600) (σ.2.2.1 603) (σ.2.2.1 611) (σ.2.2.1 612) (σ.2.2.1 615) = some (r_, w_zI504, w_zI505, w_zI507, w_zI508, w_zI509, w_zI510, w_zI519)) : CtI l D clsA G dscM ad yX16_seenRead (ws_ yX16_seenRead cX16_seenRead 5 (Option.some Jvm.ClassFile.FieldType.int)) rmM_seenRead [.ref (ad 500)] σ r_ (sgM_seenRead σ w_zI504 w_zI505 w_zI507 w_zI508 w_zI509 w_zI510 w_zI519) :=
  p_ctI (by decide +kernel) (Nat.le_of_ble_eq_true rfl) (fun p e s m below meth c0 ls A E hP hK hA hS hl => wkM_seenRead E hK hA hf rfl hP hS hl)
theorem cM_seenRead (E : EN p s m args meth c0 RX16 cc nL ret) (hK : KK D clsA G s) (hP : PM D G ad σ H) (hS : va_S A s.heap H locs) (hA : ∀ q, PA dscM ad s.heap.size q → A q) {r_ : Int32} {w_zI504 : Int32} {w_zI505 : Int32} {w_zI507 : Int32} {w_zI508 : Int32} {w_zI509 : Int32} {w_zI510 : Int32} {w_zI519 : Int32} {z_fault : Int32} (e_zI504 : σ.1 504 = z_fault) {z_faultPlace : Int32} (e_zI505 : σ.1 505 = z_faultPlace) {z_stop : Int32} (e_zI506 : σ.1 506 = z_stop) {z_next : Int32} (e_zI507 : σ.1 507 = z_next) {z_kind : Int32} (e_zI508 : σ.1 508 = z_kind) {z_which : Int32} (e_zI509 : σ.1 509 = z_which) {z_at : Int32} (e_zI510 : σ.1 510 = z_at) {z_spot : Int32} (e_zI519 : σ.1 519 = z_spot) {a_tape : Nat → Int32} (e_aI600 : σ.2.2.1 600 = a_tape) {a_words : Nat → Int32} (e_aI603 : σ.2.2.1 603 = a_words) {a_many : Nat → Int32} (e_aI611 : σ.2.2.1 611 = a_many) {a_placeName : Nat → Int32} (e_aI612 : σ.2.2.1 612 = a_placeName) {a_road : Nat → Int32} (e_aI615 : σ.2.2.1 615 = a_road) (hu : mo_seenRead z_fault z_faultPlace z_stop z_next z_kind z_which z_at z_spot a_tape a_words a_many a_placeName a_road = some (r_, w_zI504, w_zI505, w_zI507, w_zI508, w_zI509, w_zI510, w_zI519)) (hR : rmM_seenRead.frames + 1 ≤ R.frames ∧ 8 + (5 + 11) + rmM_seenRead.locals ≤ R.locals) (hcs : cells ≤ R.cells ∧ slots ≤ R.slots) (hsz : ls.size = nL) (hW : (rest.map fun v => v.category).sum ≤ 8) (hdg : decode cc pc = .ok (.invokevirtual 209, 3)) (kk : ∀ (H1 : Heap) (locs1 : List Loc), PM D G ad (zI (zI (zI (zI (zI (zI (zI σ 504 w_zI504) 505 w_zI505) 507 w_zI507) 508 w_zI508) 509 w_zI509) 510 w_zI510) 519 w_zI519) H1 → va_S A s.heap H1 locs1 → W p l e R s m args below meth c0 H1 locs1 cells slots Q (F0 m (pc + 3) ls (.int r_ :: rest))) : W p l e R s m args below meth c0 H locs cells slots Q (F0 m pc ls (.ref (ad 500) :: rest)) := by
  subst e_zI504
  subst e_zI505
  subst e_zI506
  subst e_zI507
  subst e_zI508
  subst e_zI509
  subst e_zI510
  subst e_zI519
  subst e_aI600
  subst e_aI603
  subst e_aI611
  subst e_aI612
  subst e_aI615
  exact p_callI (As := []) (rest := rest) E.1 hK hP hS hA (kM_seenRead l D G ad σ hu) (cwV 0 E.1.2.2.2.2 (lw_V q1946 q1948 qs72 q142 q1949) rfl rfl rfl (by decide +kernel) hR) dM_500 rfl rfl rfl hsz rfl hW hdg hcs kk
/-! innRead()Z -/
def sgM_innRead (σ : Sto) (w0 : Int32) (w1 : Int32) (w2 : Int32) (w3 : Int32) (w4 : Int32) (w5 : Int32) (w6 : Int32) (w7 : Nat → Int32) (w8 : Nat → Int32) : Sto := aI (aI (zI (zI (zI (zI (zI (zI (zI σ 504 w0) 505 w1) 507 w2) 508 w3) 509 w4) 510 w5) 519 w6) 611 w7) 618 w8
theorem sgM_innRead_self (σ : Sto) : sgM_innRead σ (σ.1 504) (σ.1 505) (σ.1 507) (σ.1 508) (σ.1 509) (σ.1 510) (σ.1 519) (σ.2.2.1 611) (σ.2.2.1 618) = σ := by
  unfold sgM_innRead
  simp only [zI_self, zL_self, aI_self, aL_self]
theorem sgM_innRead_zI504 {σ : Sto} {w0 : Int32} {w1 : Int32} {w2 : Int32} {w3 : Int32} {w4 : Int32} {w5 : Int32} {w6 : Int32} {w7 : Nat → Int32} {w8 : Nat → Int32} {g : Int32} : zI (sgM_innRead σ w0 w1 w2 w3 w4 w5 w6 w7 w8) 504 g = sgM_innRead σ g w1 w2 w3 w4 w5 w6 w7 w8 := (cm_zI_aI _ _ _ _ _).trans (congrArg (fun z => aI z 618 w8) ((cm_zI_aI _ _ _ _ _).trans (congrArg (fun z => aI z 611 w7) ((zI_comm _ (by decide) _ _).trans (congrArg (fun z => zI z 519 w6) ((zI_comm _ (by decide) _ _).trans (congrArg (fun z => zI z 510 w5) ((zI_comm _ (by decide) _ _).trans (congrArg (fun z => zI z 509 w4) ((zI_comm _ (by decide) _ _).trans (congrArg (fun z => zI z 508 w3) ((zI_comm _ (by decide) _ _).trans (congrArg (fun z => zI z 507 w2) ((zI_comm _ (by decide) _ _).trans (congrArg (fun z => zI z 505 w1) (zI_zI _ 504 _ _))))))))))))))))
theorem sgM_innRead_zI505 {σ : Sto} {w0 : Int32} {w1 : Int32} {w2 : Int32} {w3 : Int32} {w4 : Int32} {w5 : Int32} {w6 : Int32} {w7 : Nat → Int32} {w8 : Nat → Int32} {g : Int32} : zI (sgM_innRead σ w0 w1 w2 w3 w4 w5 w6 w7 w8) 505 g = sgM_innRead σ w0 g w2 w3 w4 w5 w6 w7 w8 := (cm_zI_aI _ _ _ _ _).trans (congrArg (fun z => aI z 618 w8) ((cm_zI_aI _ _ _ _ _).trans (congrArg (fun z => aI z 611 w7) ((zI_comm _ (by decide) _ _).trans (congrArg (fun z => zI z 519 w6) ((zI_comm _ (by decide) _ _).trans (congrArg (fun z => zI z 510 w5) ((zI_comm _ (by decide) _ _).trans (congrArg (fun z => zI z 509 w4) ((zI_comm _ (by decide) _ _).trans (congrArg (fun z => zI z 508 w3) ((zI_comm _ (by decide) _ _).trans (congrArg (fun z => zI z 507 w2) (zI_zI _ 505 _ _))))))))))))))
theorem sgM_innRead_zI507 {σ : Sto} {w0 : Int32} {w1 : Int32} {w2 : Int32} {w3 : Int32} {w4 : Int32} {w5 : Int32} {w6 : Int32} {w7 : Nat → Int32} {w8 : Nat → Int32} {g : Int32} : zI (sgM_innRead σ w0 w1 w2 w3 w4 w5 w6 w7 w8) 507 g = sgM_innRead σ w0 w1 g w3 w4 w5 w6 w7 w8 := (cm_zI_aI _ _ _ _ _).trans (congrArg (fun z => aI z 618 w8) ((cm_zI_aI _ _ _ _ _).trans (congrArg (fun z => aI z 611 w7) ((zI_comm _ (by decide) _ _).trans (congrArg (fun z => zI z 519 w6) ((zI_comm _ (by decide) _ _).trans (congrArg (fun z => zI z 510 w5) ((zI_comm _ (by decide) _ _).trans (congrArg (fun z => zI z 509 w4) ((zI_comm _ (by decide) _ _).trans (congrArg (fun z => zI z 508 w3) (zI_zI _ 507 _ _))))))))))))
theorem sgM_innRead_zI508 {σ : Sto} {w0 : Int32} {w1 : Int32} {w2 : Int32} {w3 : Int32} {w4 : Int32} {w5 : Int32} {w6 : Int32} {w7 : Nat → Int32} {w8 : Nat → Int32} {g : Int32} : zI (sgM_innRead σ w0 w1 w2 w3 w4 w5 w6 w7 w8) 508 g = sgM_innRead σ w0 w1 w2 g w4 w5 w6 w7 w8 := (cm_zI_aI _ _ _ _ _).trans (congrArg (fun z => aI z 618 w8) ((cm_zI_aI _ _ _ _ _).trans (congrArg (fun z => aI z 611 w7) ((zI_comm _ (by decide) _ _).trans (congrArg (fun z => zI z 519 w6) ((zI_comm _ (by decide) _ _).trans (congrArg (fun z => zI z 510 w5) ((zI_comm _ (by decide) _ _).trans (congrArg (fun z => zI z 509 w4) (zI_zI _ 508 _ _))))))))))
theorem sgM_innRead_zI509 {σ : Sto} {w0 : Int32} {w1 : Int32} {w2 : Int32} {w3 : Int32} {w4 : Int32} {w5 : Int32} {w6 : Int32} {w7 : Nat → Int32} {w8 : Nat → Int32} {g : Int32} : zI (sgM_innRead σ w0 w1 w2 w3 w4 w5 w6 w7 w8) 509 g = sgM_innRead σ w0 w1 w2 w3 g w5 w6 w7 w8 := (cm_zI_aI _ _ _ _ _).trans (congrArg (fun z => aI z 618 w8) ((cm_zI_aI _ _ _ _ _).trans (congrArg (fun z => aI z 611 w7) ((zI_comm _ (by decide) _ _).trans (congrArg (fun z => zI z 519 w6) ((zI_comm _ (by decide) _ _).trans (congrArg (fun z => zI z 510 w5) (zI_zI _ 509 _ _))))))))
theorem sgM_innRead_zI510 {σ : Sto} {w0 : Int32} {w1 : Int32} {w2 : Int32} {w3 : Int32} {w4 : Int32} {w5 : Int32} {w6 : Int32} {w7 : Nat → Int32} {w8 : Nat → Int32} {g : Int32} : zI (sgM_innRead σ w0 w1 w2 w3 w4 w5 w6 w7 w8) 510 g = sgM_innRead σ w0 w1 w2 w3 w4 g w6 w7 w8 := (cm_zI_aI _ _ _ _ _).trans (congrArg (fun z => aI z 618 w8) ((cm_zI_aI _ _ _ _ _).trans (congrArg (fun z => aI z 611 w7) ((zI_comm _ (by decide) _ _).trans (congrArg (fun z => zI z 519 w6) (zI_zI _ 510 _ _))))))
theorem sgM_innRead_zI519 {σ : Sto} {w0 : Int32} {w1 : Int32} {w2 : Int32} {w3 : Int32} {w4 : Int32} {w5 : Int32} {w6 : Int32} {w7 : Nat → Int32} {w8 : Nat → Int32} {g : Int32} : zI (sgM_innRead σ w0 w1 w2 w3 w4 w5 w6 w7 w8) 519 g = sgM_innRead σ w0 w1 w2 w3 w4 w5 g w7 w8 := (cm_zI_aI _ _ _ _ _).trans (congrArg (fun z => aI z 618 w8) ((cm_zI_aI _ _ _ _ _).trans (congrArg (fun z => aI z 611 w7) (zI_zI _ 519 _ _))))
theorem sgM_innRead_aI611 {σ : Sto} {w0 : Int32} {w1 : Int32} {w2 : Int32} {w3 : Int32} {w4 : Int32} {w5 : Int32} {w6 : Int32} {w7 : Nat → Int32} {w8 : Nat → Int32} {g : Nat → Int32} : aI (sgM_innRead σ w0 w1 w2 w3 w4 w5 w6 w7 w8) 611 g = sgM_innRead σ w0 w1 w2 w3 w4 w5 w6 g w8 := (aI_comm _ (by decide) _ _).trans (congrArg (fun z => aI z 618 w8) (aI_aI _ 611 _ _))
theorem sgM_innRead_aI618 {σ : Sto} {w0 : Int32} {w1 : Int32} {w2 : Int32} {w3 : Int32} {w4 : Int32} {w5 : Int32} {w6 : Int32} {w7 : Nat → Int32} {w8 : Nat → Int32} {g : Nat → Int32} : aI (sgM_innRead σ w0 w1 w2 w3 w4 w5 w6 w7 w8) 618 g = sgM_innRead σ w0 w1 w2 w3 w4 w5 w6 w7 g := aI_aI _ 618 _ _
theorem sgM_innRead_rzI504 {σ : Sto} {w0 : Int32} {w1 : Int32} {w2 : Int32} {w3 : Int32} {w4 : Int32} {w5 : Int32} {w6 : Int32} {w7 : Nat → Int32} {w8 : Nat → Int32} : (sgM_innRead σ w0 w1 w2 w3 w4 w5 w6 w7 w8).1 504 = w0 := rfl
theorem sgM_innRead_rzI505 {σ : Sto} {w0 : Int32} {w1 : Int32} {w2 : Int32} {w3 : Int32} {w4 : Int32} {w5 : Int32} {w6 : Int32} {w7 : Nat → Int32} {w8 : Nat → Int32} : (sgM_innRead σ w0 w1 w2 w3 w4 w5 w6 w7 w8).1 505 = w1 := rfl
theorem sgM_innRead_rzI506 {σ : Sto} {w0 : Int32} {w1 : Int32} {w2 : Int32} {w3 : Int32} {w4 : Int32} {w5 : Int32} {w6 : Int32} {w7 : Nat → Int32} {w8 : Nat → Int32} : (sgM_innRead σ w0 w1 w2 w3 w4 w5 w6 w7 w8).1 506 = σ.1 506 := rfl
theorem sgM_innRead_rzI507 {σ : Sto} {w0 : Int32} {w1 : Int32} {w2 : Int32} {w3 : Int32} {w4 : Int32} {w5 : Int32} {w6 : Int32} {w7 : Nat → Int32} {w8 : Nat → Int32} : (sgM_innRead σ w0 w1 w2 w3 w4 w5 w6 w7 w8).1 507 = w2 := rfl
theorem sgM_innRead_rzI508 {σ : Sto} {w0 : Int32} {w1 : Int32} {w2 : Int32} {w3 : Int32} {w4 : Int32} {w5 : Int32} {w6 : Int32} {w7 : Nat → Int32} {w8 : Nat → Int32} : (sgM_innRead σ w0 w1 w2 w3 w4 w5 w6 w7 w8).1 508 = w3 := rfl
theorem sgM_innRead_rzI509 {σ : Sto} {w0 : Int32} {w1 : Int32} {w2 : Int32} {w3 : Int32} {w4 : Int32} {w5 : Int32} {w6 : Int32} {w7 : Nat → Int32} {w8 : Nat → Int32} : (sgM_innRead σ w0 w1 w2 w3 w4 w5 w6 w7 w8).1 509 = w4 := rfl
theorem sgM_innRead_rzI510 {σ : Sto} {w0 : Int32} {w1 : Int32} {w2 : Int32} {w3 : Int32} {w4 : Int32} {w5 : Int32} {w6 : Int32} {w7 : Nat → Int32} {w8 : Nat → Int32} : (sgM_innRead σ w0 w1 w2 w3 w4 w5 w6 w7 w8).1 510 = w5 := rfl
theorem sgM_innRead_rzI519 {σ : Sto} {w0 : Int32} {w1 : Int32} {w2 : Int32} {w3 : Int32} {w4 : Int32} {w5 : Int32} {w6 : Int32} {w7 : Nat → Int32} {w8 : Nat → Int32} : (sgM_innRead σ w0 w1 w2 w3 w4 w5 w6 w7 w8).1 519 = w6 := rfl
theorem sgM_innRead_raI600 {σ : Sto} {w0 : Int32} {w1 : Int32} {w2 : Int32} {w3 : Int32} {w4 : Int32} {w5 : Int32} {w6 : Int32} {w7 : Nat → Int32} {w8 : Nat → Int32} : (sgM_innRead σ w0 w1 w2 w3 w4 w5 w6 w7 w8).2.2.1 600 = σ.2.2.1 600 := rfl
theorem sgM_innRead_raI603 {σ : Sto} {w0 : Int32} {w1 : Int32} {w2 : Int32} {w3 : Int32} {w4 : Int32} {w5 : Int32} {w6 : Int32} {w7 : Nat → Int32} {w8 : Nat → Int32} : (sgM_innRead σ w0 w1 w2 w3 w4 w5 w6 w7 w8).2.2.1 603 = σ.2.2.1 603 := rfl
theorem sgM_innRead_raI611 {σ : Sto} {w0 : Int32} {w1 : Int32} {w2 : Int32} {w3 : Int32} {w4 : Int32} {w5 : Int32} {w6 : Int32} {w7 : Nat → Int32} {w8 : Nat → Int32} : (sgM_innRead σ w0 w1 w2 w3 w4 w5 w6 w7 w8).2.2.1 611 = w7 := rfl
theorem sgM_innRead_raI612 {σ : Sto} {w0 : Int32} {w1 : Int32} {w2 : Int32} {w3 : Int32} {w4 : Int32} {w5 : Int32} {w6 : Int32} {w7 : Nat → Int32} {w8 : Nat → Int32} : (sgM_innRead σ w0 w1 w2 w3 w4 w5 w6 w7 w8).2.2.1 612 = σ.2.2.1 612 := rfl
theorem sgM_innRead_raI615 {σ : Sto} {w0 : Int32} {w1 : Int32} {w2 : Int32} {w3 : Int32} {w4 : Int32} {w5 : Int32} {w6 : Int32} {w7 : Nat → Int32} {w8 : Nat → Int32} : (sgM_innRead σ w0 w1 w2 w3 w4 w5 w6 w7 w8).2.2.1 615 = σ.2.2.1 615 := rfl
theorem sgM_innRead_raI618 {σ : Sto} {w0 : Int32} {w1 : Int32} {w2 : Int32} {w3 : Int32} {w4 : Int32} {w5 : Int32} {w6 : Int32} {w7 : Nat → Int32} {w8 : Nat → Int32} : (sgM_innRead σ w0 w1 w2 w3 w4 w5 w6 w7 w8).2.2.1 618 = w8 := rfl
abbrev rmM_innRead : Room := { frames := 3, cells := 0, slots := 0, locals := 71 }
set_option maxHeartbeats 4000000 in
theorem wkM_innRead  {r_ : Int32} {w_zI504 : Int32} {w_zI505 : Int32} {w_zI507 : Int32} {w_zI508 : Int32} {w_zI509 : Int32} {w_zI510 : Int32} {w_zI519 : Int32} {w_aI611 : Nat → Int32} {w_aI618 : Nat → Int32} (E : EN p s m args meth c0 RX16 cX16_innRead 3 (Option.some Jvm.ClassFile.FieldType.boolean)) (hK : KK D clsA G s) (hA : ∀ q, PA dscM ad s.heap.size q → A q) (hf : mo_innRead (σ.1 504) (σ.1 505) (σ.1 506) (σ.1 507) (σ.1 508) (σ.1 509) (σ.1 510) (σ.1 519) (σ.2.2.1 600) (σ.2.2.1 603) (σ.2.2.1 611) (σ.2.2.1 612) (σ.2.2.1 615) (σ.2.2.1 618) = some (r_, w_zI504, w_zI505, w_zI507, w_zI508, w_zI509, w_zI510, w_zI519, w_aI611, w_aI618)) (hQ : Q = MQ below (va_Qi (fun x (_ : Unit) => x = r_) (fun _ t => PM D G ad (sgM_innRead σ w_zI504 w_zI505 w_zI507 w_zI508 w_zI509 w_zI510 w_zI519 w_aI611 w_aI618) t.heap ∧ KK D clsA G t) A) args s 0 0 A) (hP : PM D G ad σ H) (hS : va_S A s.heap H locs) (hl : lv_has ls 3 [(0, .ref (ad 500))]) : W p l e rmM_innRead s m args below meth c0 H locs 0 0 Q (F0 m 0 ls []) := by
  obtain ⟨⟨hx, hb, hml, hown, hts⟩, hr, hlk⟩ := id E
  have hP := hP.to (sgM_innRead_self σ).symm
  unfold mo_innRead at hf
  refine lv_aload_n hx hb dX16_innRead_0 rfl (lv_at hl 0 rfl) ?_
  refine gM_11 E hK hP dX16_innRead_1 ?_
  refine lv_bipush hx hb dX16_innRead_4 bp_13 ?_
  obtain ⟨v1, hv1, hf⟩ := bdP hf
  refine p_iald hx hb hK hP dM_611 sgM_innRead_raI611 hv1 dX16_innRead_6 ?_
  refine lv_bipush hx hb dX16_innRead_7 bp_6 ?_
  refine lv_icmp_ne (tgt := 18) hx hb dX16_innRead_9 (by decide) (fun c2 => ?_) (fun c2 => ?_)
  · have hf := ifF c2 hf
    refine lv_aload_n hx hb dX16_innRead_18 rfl (lv_at hl 0 rfl) ?_
    obtain ⟨⟨v3, z4, z5, z6, z7, z8, z9, z10⟩, u11, hf⟩ := bdP hf
    dsimp only at hf
    refine cM_seenRead E hK hP hS hA sgM_innRead_rzI504 sgM_innRead_rzI505 sgM_innRead_rzI506 sgM_innRead_rzI507 sgM_innRead_rzI508 sgM_innRead_rzI509 sgM_innRead_rzI510 sgM_innRead_rzI519 sgM_innRead_raI600 sgM_innRead_raI603 sgM_innRead_raI611 sgM_innRead_raI612 sgM_innRead_raI615 u11 ⟨Nat.le_of_ble_eq_true rfl, Nat.le_of_ble_eq_true rfl⟩ ⟨Nat.zero_le _, Nat.zero_le _⟩ hl.1 (Nat.le_of_ble_eq_true rfl) dX16_innRead_19 (fun H locs hP hS => ?_)
    rw [sgM_innRead_zI504, sgM_innRead_zI505, sgM_innRead_zI507, sgM_innRead_zI508, sgM_innRead_zI509, sgM_innRead_zI510, sgM_innRead_zI519] at hP
    refine lv_istore_n (lv' := [(1, .int v3), (0, .ref (ad 500))]) hx hb dX16_innRead_22 rfl hl (by decide) rfl (fun ls hl => ?_)
    refine lv_iload_n hx hb dX16_innRead_23 rfl (lv_at hl 0 rfl) ?_
    refine lv_if_ge (tgt := 29) hx hb dX16_innRead_24 (by decide) (fun c12 => ?_) (fun c12 => ?_)
    · have hf := ifT c12 hf
      refine lv_aload_n hx hb dX16_innRead_29 rfl (lv_at hl 1 rfl) ?_
      refine lv_iconst hx hb dX16_innRead_30 ic_1 ?_
      refine lv_bipush hx hb dX16_innRead_31 bp_99 ?_
      obtain ⟨⟨v13, z14, z15⟩, u16, hf⟩ := bdP hf
      dsimp only at hf
      refine cM_numberRead E hK hP hS hA sgM_innRead_rzI504 sgM_innRead_rzI505 sgM_innRead_rzI508 sgM_innRead_rzI509 sgM_innRead_rzI510 u16 ⟨Nat.le_of_ble_eq_true rfl, Nat.le_of_ble_eq_true rfl⟩ ⟨Nat.zero_le _, Nat.zero_le _⟩ hl.1 (Nat.le_of_ble_eq_true rfl) dX16_innRead_33 (fun H locs hP hS => ?_)
      rw [sgM_innRead_zI504, sgM_innRead_zI505] at hP
      refine lv_if_ne (tgt := 41) hx hb dX16_innRead_36 (by decide) (fun c17 => ?_) (fun c17 => ?_)
      · have hf := ifF c17 hf
        refine lv_bipush hx hb dX16_innRead_41 bp_18 ?_
        refine lv_iconst hx hb dX16_innRead_43 ic_3 ?_
        refine lv_aload_n hx hb dX16_innRead_44 rfl (lv_at hl 1 rfl) ?_
        refine gM_11 E hK hP dX16_innRead_45 ?_
        refine lv_bipush hx hb dX16_innRead_48 bp_13 ?_
        obtain ⟨v18, hv18, hf⟩ := bdP hf
        refine p_iald hx hb hK hP dM_611 sgM_innRead_raI611 hv18 dX16_innRead_50 ?_
        refine lv_imul hx hb dX16_innRead_51 ?_
        refine lv_iadd hx hb dX16_innRead_52 ?_
        obtain ⟨v19, hv19, hf⟩ := bdP hf
        refine nm_i (Option.some.inj hv19) ?_
        refine lv_istore_n (lv' := [(2, .int v19), (1, .int v3), (0, .ref (ad 500))]) hx hb dX16_innRead_53 rfl hl (by decide) rfl (fun ls hl => ?_)
        refine lv_aload_n hx hb dX16_innRead_54 rfl (lv_at hl 2 rfl) ?_
        refine gM_18 E hK hP dX16_innRead_55 ?_
        refine lv_iload_n hx hb dX16_innRead_58 rfl (lv_at hl 0 rfl) ?_
        refine lv_iload_n hx hb dX16_innRead_59 rfl (lv_at hl 1 rfl) ?_
        refine lv_bipush hx hb dX16_innRead_60 bp_6 ?_
        obtain ⟨v20, hv20, hf⟩ := bdP hf
        refine lv_idiv hx hb dX16_innRead_62 (dvI_some hv20).1 ?_
        refine nm_i (dvI_some hv20).2 ?_
        obtain ⟨a21, ha21, hf⟩ := bdP hf
        refine p_iast hx hb hK hP hS (hA _ (PA_c dM_618)) dM_618 sgM_innRead_raI618 ha21 sgM_innRead_aI618 dX16_innRead_63 (fun H locs hP hS => ?_)
        refine lv_aload_n hx hb dX16_innRead_64 rfl (lv_at hl 2 rfl) ?_
        refine gM_18 E hK hP dX16_innRead_65 ?_
        refine lv_iload_n hx hb dX16_innRead_68 rfl (lv_at hl 0 rfl) ?_
        refine lv_iconst hx hb dX16_innRead_69 ic_1 ?_
        refine lv_iadd hx hb dX16_innRead_70 ?_
        refine lv_iload_n hx hb dX16_innRead_71 rfl (lv_at hl 1 rfl) ?_
        refine lv_bipush hx hb dX16_innRead_72 bp_6 ?_
        obtain ⟨v22, hv22, hf⟩ := bdP hf
        refine lv_irem hx hb dX16_innRead_74 (rmI_some hv22).1 ?_
        refine nm_i (rmI_some hv22).2 ?_
        obtain ⟨a23, ha23, hf⟩ := bdP hf
        refine p_iast hx hb hK hP hS (hA _ (PA_c dM_618)) dM_618 sgM_innRead_raI618 ha23 sgM_innRead_aI618 dX16_innRead_75 (fun H locs hP hS => ?_)
        refine lv_aload_n hx hb dX16_innRead_76 rfl (lv_at hl 2 rfl) ?_
        refine gM_18 E hK hP dX16_innRead_77 ?_
        refine lv_iload_n hx hb dX16_innRead_80 rfl (lv_at hl 0 rfl) ?_
        refine lv_iconst hx hb dX16_innRead_81 ic_2 ?_
        refine lv_iadd hx hb dX16_innRead_82 ?_
        refine lv_aload_n hx hb dX16_innRead_83 rfl (lv_at hl 2 rfl) ?_
        refine gM_9 (v := z8) E hK hP sgM_innRead_rzI509 dX16_innRead_84 ?_
        obtain ⟨a24, ha24, hf⟩ := bdP hf
        refine p_iast hx hb hK hP hS (hA _ (PA_c dM_618)) dM_618 sgM_innRead_raI618 ha24 sgM_innRead_aI618 dX16_innRead_87 (fun H locs hP hS => ?_)
        refine lv_aload_n hx hb dX16_innRead_88 rfl (lv_at hl 2 rfl) ?_
        refine gM_11 E hK hP dX16_innRead_89 ?_
        refine lv_bipush hx hb dX16_innRead_92 bp_13 ?_
        refine lv_dup2_11 hx hb dX16_innRead_94 rfl rfl ?_
        obtain ⟨v25, hv25, hf⟩ := bdP hf
        refine p_iald hx hb hK hP dM_611 sgM_innRead_raI611 hv25 dX16_innRead_95 ?_
        refine lv_iconst hx hb dX16_innRead_96 ic_1 ?_
        refine lv_iadd hx hb dX16_innRead_97 ?_
        obtain ⟨a26, ha26, hf⟩ := bdP hf
        refine p_iast hx hb hK hP hS (hA _ (PA_c dM_611)) dM_611 sgM_innRead_raI611 ha26 sgM_innRead_aI611 dX16_innRead_98 (fun H locs hP hS => ?_)
        refine lv_aload_n hx hb dX16_innRead_99 rfl (lv_at hl 2 rfl) ?_
        obtain ⟨⟨z27, z28, z29, z30⟩, u31, hf⟩ := bdP hf
        dsimp only at hf
        refine cM_take E hK hP hS hA sgM_innRead_rzI506 sgM_innRead_rzI507 sgM_innRead_rzI508 sgM_innRead_rzI509 sgM_innRead_rzI510 sgM_innRead_raI600 sgM_innRead_raI603 u31 ⟨Nat.le_of_ble_eq_true rfl, Nat.le_of_ble_eq_true rfl⟩ ⟨Nat.zero_le _, Nat.zero_le _⟩ hl.1 (Nat.le_of_ble_eq_true rfl) dX16_innRead_100 (fun H locs hP hS => ?_)
        rw [sgM_innRead_zI507, sgM_innRead_zI508, sgM_innRead_zI509, sgM_innRead_zI510] at hP
        refine lv_iconst hx hb dX16_innRead_103 ic_1 ?_
        cases hf
        rw [hQ]; exact p_zret hx hb hr hlk hK hP hS rfl dX16_innRead_104
      · have hf := ifT c17 hf
        refine lv_iconst hx hb dX16_innRead_39 ic_0 ?_
        cases hf
        rw [hQ]; exact p_zret hx hb hr hlk hK hP hS rfl dX16_innRead_40
    · have hf := ifF c12 hf
      refine lv_iconst hx hb dX16_innRead_27 ic_0 ?_
      cases hf
      rw [hQ]; exact p_zret hx hb hr hlk hK hP hS rfl dX16_innRead_28
  · have hf := ifT c2 hf
    refine lv_aload_n hx hb dX16_innRead_12 rfl (lv_at hl 0 rfl) ?_
    refine lv_iconst hx hb dX16_innRead_13 ic_2 ?_
    obtain ⟨⟨v32, z33, z34⟩, u35, hf⟩ := bdP hf
    dsimp only at hf
    refine cM_wrong E hK hP hS hA sgM_innRead_rzI504 sgM_innRead_rzI505 sgM_innRead_rzI510 u35 ⟨Nat.le_of_ble_eq_true rfl, Nat.le_of_ble_eq_true rfl⟩ ⟨Nat.zero_le _, Nat.zero_le _⟩ hl.1 (Nat.le_of_ble_eq_true rfl) dX16_innRead_14 (fun H locs hP hS => ?_)
    rw [sgM_innRead_zI504, sgM_innRead_zI505] at hP
    obtain ⟨v36, hv36, hf⟩ := bdP hf
    obtain ⟨hv36a, hv36b⟩ := retZ_some hv36
    subst hv36a
    cases hf
    rw [hQ]; exact p_zret hx hb hr hlk hK hP hS hv36b dX16_innRead_17
theorem kM_innRead (l : Launch) (D : va_G) (G : Nat → ClassId) (ad : Nat → Nat) (σ : Sto) {r_ : Int32} {w_zI504 : Int32} {w_zI505 : Int32} {w_zI507 : Int32} {w_zI508 : Int32} {w_zI509 : Int32} {w_zI510 : Int32} {w_zI519 : Int32} {w_aI611 : Nat → Int32} {w_aI618 : Nat → Int32} (hf : mo_innRead (σ.1 504) (σ.1 505) (σ.1 506) (σ.1 507) (σ.1 508) (σ.1 509) (σ.1 510) (σ.1 519) (σ.2.2.1 600) (σ.2.2.1 603) (σ.2.2.1 611) (σ.2.2.1 612) (σ.2.2.1 615) (σ.2.2.1 618) = some (r_, w_zI504, w_zI505, w_zI507, w_zI508, w_zI509, w_zI510, w_zI519, w_aI611, w_aI618)) : CtI l D clsA G dscM ad yX16_innRead (ws_ yX16_innRead cX16_innRead 3 (Option.some Jvm.ClassFile.FieldType.boolean)) rmM_innRead [.ref (ad 500)] σ r_ (sgM_innRead σ w_zI504 w_zI505 w_zI507 w_zI508 w_zI509 w_zI510 w_zI519 w_aI611 w_aI618) :=
  p_ctI (by decide +kernel) (Nat.le_of_ble_eq_true rfl) (fun p e s m below meth c0 ls A E hP hK hA hS hl => wkM_innRead E hK hA hf rfl hP hS hl)
theorem cM_innRead (E : EN p s m args meth c0 RX16 cc nL ret) (hK : KK D clsA G s) (hP : PM D G ad σ H) (hS : va_S A s.heap H locs) (hA : ∀ q, PA dscM ad s.heap.size q → A q) {r_ : Int32} {w_zI504 : Int32} {w_zI505 : Int32} {w_zI507 : Int32} {w_zI508 : Int32} {w_zI509 : Int32} {w_zI510 : Int32} {w_zI519 : Int32} {w_aI611 : Nat → Int32} {w_aI618 : Nat → Int32} {z_fault : Int32} (e_zI504 : σ.1 504 = z_fault) {z_faultPlace : Int32} (e_zI505 : σ.1 505 = z_faultPlace) {z_stop : Int32} (e_zI506 : σ.1 506 = z_stop) {z_next : Int32} (e_zI507 : σ.1 507 = z_next) {z_kind : Int32} (e_zI508 : σ.1 508 = z_kind) {z_which : Int32} (e_zI509 : σ.1 509 = z_which) {z_at : Int32} (e_zI510 : σ.1 510 = z_at) {z_spot : Int32} (e_zI519 : σ.1 519 = z_spot) {a_tape : Nat → Int32} (e_aI600 : σ.2.2.1 600 = a_tape) {a_words : Nat → Int32} (e_aI603 : σ.2.2.1 603 = a_words) {a_many : Nat → Int32} (e_aI611 : σ.2.2.1 611 = a_many) {a_placeName : Nat → Int32} (e_aI612 : σ.2.2.1 612 = a_placeName) {a_road : Nat → Int32} (e_aI615 : σ.2.2.1 615 = a_road) {a_word : Nat → Int32} (e_aI618 : σ.2.2.1 618 = a_word) (hu : mo_innRead z_fault z_faultPlace z_stop z_next z_kind z_which z_at z_spot a_tape a_words a_many a_placeName a_road a_word = some (r_, w_zI504, w_zI505, w_zI507, w_zI508, w_zI509, w_zI510, w_zI519, w_aI611, w_aI618)) (hR : rmM_innRead.frames + 1 ≤ R.frames ∧ 8 + (3 + 11) + rmM_innRead.locals ≤ R.locals) (hcs : cells ≤ R.cells ∧ slots ≤ R.slots) (hsz : ls.size = nL) (hW : (rest.map fun v => v.category).sum ≤ 8) (hdg : decode cc pc = .ok (.invokevirtual 225, 3)) (kk : ∀ (H1 : Heap) (locs1 : List Loc), PM D G ad (aI (aI (zI (zI (zI (zI (zI (zI (zI σ 504 w_zI504) 505 w_zI505) 507 w_zI507) 508 w_zI508) 509 w_zI509) 510 w_zI510) 519 w_zI519) 611 w_aI611) 618 w_aI618) H1 → va_S A s.heap H1 locs1 → W p l e R s m args below meth c0 H1 locs1 cells slots Q (F0 m (pc + 3) ls (.int r_ :: rest))) : W p l e R s m args below meth c0 H locs cells slots Q (F0 m pc ls (.ref (ad 500) :: rest)) := by
  subst e_zI504
  subst e_zI505
  subst e_zI506
  subst e_zI507
  subst e_zI508
  subst e_zI509
  subst e_zI510
  subst e_zI519
  subst e_aI600
  subst e_aI603
  subst e_aI611
  subst e_aI612
  subst e_aI615
  subst e_aI618
  exact p_callI (As := []) (rest := rest) E.1 hK hP hS hA (kM_innRead l D G ad σ hu) (cwV 0 E.1.2.2.2.2 (lw_V q1950 q1952 qs73 q142 q1953) rfl rfl rfl (by decide +kernel) hR) dM_500 rfl rfl rfl hsz rfl hW hdg hcs kk
/-! placesRead()Z -/
def sgM_placesRead (σ : Sto) (w0 : Int32) (w1 : Int32) (w2 : Int32) (w3 : Int32) (w4 : Int32) (w5 : Int32) (w6 : Nat → Int32) (w7 : Nat → Int32) : Sto := aI (aI (zI (zI (zI (zI (zI (zI σ 504 w0) 505 w1) 507 w2) 508 w3) 509 w4) 510 w5) 611 w6) 612 w7
theorem sgM_placesRead_self (σ : Sto) : sgM_placesRead σ (σ.1 504) (σ.1 505) (σ.1 507) (σ.1 508) (σ.1 509) (σ.1 510) (σ.2.2.1 611) (σ.2.2.1 612) = σ := by
  unfold sgM_placesRead
  simp only [zI_self, zL_self, aI_self, aL_self]
theorem sgM_placesRead_zI504 {σ : Sto} {w0 : Int32} {w1 : Int32} {w2 : Int32} {w3 : Int32} {w4 : Int32} {w5 : Int32} {w6 : Nat → Int32} {w7 : Nat → Int32} {g : Int32} : zI (sgM_placesRead σ w0 w1 w2 w3 w4 w5 w6 w7) 504 g = sgM_placesRead σ g w1 w2 w3 w4 w5 w6 w7 := (cm_zI_aI _ _ _ _ _).trans (congrArg (fun z => aI z 612 w7) ((cm_zI_aI _ _ _ _ _).trans (congrArg (fun z => aI z 611 w6) ((zI_comm _ (by decide) _ _).trans (congrArg (fun z => zI z 510 w5) ((zI_comm _ (by decide) _ _).trans (congrArg (fun z => zI z 509 w4) ((zI_comm _ (by decide) _ _).trans (congrArg (fun z => zI z 508 w3) ((zI_comm _ (by decide) _ _).trans (congrArg (fun z => zI z 507 w2) ((zI_comm _ (by decide) _ _).trans (congrArg (fun z => zI z 505 w1) (zI_zI _ 504 _ _))))))))))))))
theorem sgM_placesRead_zI505 {σ : Sto} {w0 : Int32} {w1 : Int32} {w2 : Int32} {w3 : Int32} {w4 : Int32} {w5 : Int32} {w6 : Nat → Int32} {w7 : Nat → Int32} {g : Int32} : zI (sgM_placesRead σ w0 w1 w2 w3 w4 w5 w6 w7) 505 g = sgM_placesRead σ w0 g w2 w3 w4 w5 w6 w7 := (cm_zI_aI _ _ _ _ _).trans (congrArg (fun z => aI z 612 w7) ((cm_zI_aI _ _ _ _ _).trans (congrArg (fun z => aI z 611 w6) ((zI_comm _ (by decide) _ _).trans (congrArg (fun z => zI z 510 w5) ((zI_comm _ (by decide) _ _).trans (congrArg (fun z => zI z 509 w4) ((zI_comm _ (by decide) _ _).trans (congrArg (fun z => zI z 508 w3) ((zI_comm _ (by decide) _ _).trans (congrArg (fun z => zI z 507 w2) (zI_zI _ 505 _ _))))))))))))
theorem sgM_placesRead_zI507 {σ : Sto} {w0 : Int32} {w1 : Int32} {w2 : Int32} {w3 : Int32} {w4 : Int32} {w5 : Int32} {w6 : Nat → Int32} {w7 : Nat → Int32} {g : Int32} : zI (sgM_placesRead σ w0 w1 w2 w3 w4 w5 w6 w7) 507 g = sgM_placesRead σ w0 w1 g w3 w4 w5 w6 w7 := (cm_zI_aI _ _ _ _ _).trans (congrArg (fun z => aI z 612 w7) ((cm_zI_aI _ _ _ _ _).trans (congrArg (fun z => aI z 611 w6) ((zI_comm _ (by decide) _ _).trans (congrArg (fun z => zI z 510 w5) ((zI_comm _ (by decide) _ _).trans (congrArg (fun z => zI z 509 w4) ((zI_comm _ (by decide) _ _).trans (congrArg (fun z => zI z 508 w3) (zI_zI _ 507 _ _))))))))))
theorem sgM_placesRead_zI508 {σ : Sto} {w0 : Int32} {w1 : Int32} {w2 : Int32} {w3 : Int32} {w4 : Int32} {w5 : Int32} {w6 : Nat → Int32} {w7 : Nat → Int32} {g : Int32} : zI (sgM_placesRead σ w0 w1 w2 w3 w4 w5 w6 w7) 508 g = sgM_placesRead σ w0 w1 w2 g w4 w5 w6 w7 := (cm_zI_aI _ _ _ _ _).trans (congrArg (fun z => aI z 612 w7) ((cm_zI_aI _ _ _ _ _).trans (congrArg (fun z => aI z 611 w6) ((zI_comm _ (by decide) _ _).trans (congrArg (fun z => zI z 510 w5) ((zI_comm _ (by decide) _ _).trans (congrArg (fun z => zI z 509 w4) (zI_zI _ 508 _ _))))))))
theorem sgM_placesRead_zI509 {σ : Sto} {w0 : Int32} {w1 : Int32} {w2 : Int32} {w3 : Int32} {w4 : Int32} {w5 : Int32} {w6 : Nat → Int32} {w7 : Nat → Int32} {g : Int32} : zI (sgM_placesRead σ w0 w1 w2 w3 w4 w5 w6 w7) 509 g = sgM_placesRead σ w0 w1 w2 w3 g w5 w6 w7 := (cm_zI_aI _ _ _ _ _).trans (congrArg (fun z => aI z 612 w7) ((cm_zI_aI _ _ _ _ _).trans (congrArg (fun z => aI z 611 w6) ((zI_comm _ (by decide) _ _).trans (congrArg (fun z => zI z 510 w5) (zI_zI _ 509 _ _))))))
theorem sgM_placesRead_zI510 {σ : Sto} {w0 : Int32} {w1 : Int32} {w2 : Int32} {w3 : Int32} {w4 : Int32} {w5 : Int32} {w6 : Nat → Int32} {w7 : Nat → Int32} {g : Int32} : zI (sgM_placesRead σ w0 w1 w2 w3 w4 w5 w6 w7) 510 g = sgM_placesRead σ w0 w1 w2 w3 w4 g w6 w7 := (cm_zI_aI _ _ _ _ _).trans (congrArg (fun z => aI z 612 w7) ((cm_zI_aI _ _ _ _ _).trans (congrArg (fun z => aI z 611 w6) (zI_zI _ 510 _ _))))
theorem sgM_placesRead_aI611 {σ : Sto} {w0 : Int32} {w1 : Int32} {w2 : Int32} {w3 : Int32} {w4 : Int32} {w5 : Int32} {w6 : Nat → Int32} {w7 : Nat → Int32} {g : Nat → Int32} : aI (sgM_placesRead σ w0 w1 w2 w3 w4 w5 w6 w7) 611 g = sgM_placesRead σ w0 w1 w2 w3 w4 w5 g w7 := (aI_comm _ (by decide) _ _).trans (congrArg (fun z => aI z 612 w7) (aI_aI _ 611 _ _))
theorem sgM_placesRead_aI612 {σ : Sto} {w0 : Int32} {w1 : Int32} {w2 : Int32} {w3 : Int32} {w4 : Int32} {w5 : Int32} {w6 : Nat → Int32} {w7 : Nat → Int32} {g : Nat → Int32} : aI (sgM_placesRead σ w0 w1 w2 w3 w4 w5 w6 w7) 612 g = sgM_placesRead σ w0 w1 w2 w3 w4 w5 w6 g := aI_aI _ 612 _ _
theorem sgM_placesRead_rzI504 {σ : Sto} {w0 : Int32} {w1 : Int32} {w2 : Int32} {w3 : Int32} {w4 : Int32} {w5 : Int32} {w6 : Nat → Int32} {w7 : Nat → Int32} : (sgM_placesRead σ w0 w1 w2 w3 w4 w5 w6 w7).1 504 = w0 := rfl
theorem sgM_placesRead_rzI505 {σ : Sto} {w0 : Int32} {w1 : Int32} {w2 : Int32} {w3 : Int32} {w4 : Int32} {w5 : Int32} {w6 : Nat → Int32} {w7 : Nat → Int32} : (sgM_placesRead σ w0 w1 w2 w3 w4 w5 w6 w7).1 505 = w1 := rfl
theorem sgM_placesRead_rzI506 {σ : Sto} {w0 : Int32} {w1 : Int32} {w2 : Int32} {w3 : Int32} {w4 : Int32} {w5 : Int32} {w6 : Nat → Int32} {w7 : Nat → Int32} : (sgM_placesRead σ w0 w1 w2 w3 w4 w5 w6 w7).1 506 = σ.1 506 := rfl
theorem sgM_placesRead_rzI507 {σ : Sto} {w0 : Int32} {w1 : Int32} {w2 : Int32} {w3 : Int32} {w4 : Int32} {w5 : Int32} {w6 : Nat → Int32} {w7 : Nat → Int32} : (sgM_placesRead σ w0 w1 w2 w3 w4 w5 w6 w7).1 507 = w2 := rfl
theorem sgM_placesRead_rzI508 {σ : Sto} {w0 : Int32} {w1 : Int32} {w2 : Int32} {w3 : Int32} {w4 : Int32} {w5 : Int32} {w6 : Nat → Int32} {w7 : Nat → Int32} : (sgM_placesRead σ w0 w1 w2 w3 w4 w5 w6 w7).1 508 = w3 := rfl
theorem sgM_placesRead_rzI509 {σ : Sto} {w0 : Int32} {w1 : Int32} {w2 : Int32} {w3 : Int32} {w4 : Int32} {w5 : Int32} {w6 : Nat → Int32} {w7 : Nat → Int32} : (sgM_placesRead σ w0 w1 w2 w3 w4 w5 w6 w7).1 509 = w4 := rfl
theorem sgM_placesRead_rzI510 {σ : Sto} {w0 : Int32} {w1 : Int32} {w2 : Int32} {w3 : Int32} {w4 : Int32} {w5 : Int32} {w6 : Nat → Int32} {w7 : Nat → Int32} : (sgM_placesRead σ w0 w1 w2 w3 w4 w5 w6 w7).1 510 = w5 := rfl
theorem sgM_placesRead_raI600 {σ : Sto} {w0 : Int32} {w1 : Int32} {w2 : Int32} {w3 : Int32} {w4 : Int32} {w5 : Int32} {w6 : Nat → Int32} {w7 : Nat → Int32} : (sgM_placesRead σ w0 w1 w2 w3 w4 w5 w6 w7).2.2.1 600 = σ.2.2.1 600 := rfl
theorem sgM_placesRead_raI603 {σ : Sto} {w0 : Int32} {w1 : Int32} {w2 : Int32} {w3 : Int32} {w4 : Int32} {w5 : Int32} {w6 : Nat → Int32} {w7 : Nat → Int32} : (sgM_placesRead σ w0 w1 w2 w3 w4 w5 w6 w7).2.2.1 603 = σ.2.2.1 603 := rfl
theorem sgM_placesRead_raI611 {σ : Sto} {w0 : Int32} {w1 : Int32} {w2 : Int32} {w3 : Int32} {w4 : Int32} {w5 : Int32} {w6 : Nat → Int32} {w7 : Nat → Int32} : (sgM_placesRead σ w0 w1 w2 w3 w4 w5 w6 w7).2.2.1 611 = w6 := rfl
theorem sgM_placesRead_raI612 {σ : Sto} {w0 : Int32} {w1 : Int32} {w2 : Int32} {w3 : Int32} {w4 : Int32} {w5 : Int32} {w6 : Nat → Int32} {w7 : Nat → Int32} : (sgM_placesRead σ w0 w1 w2 w3 w4 w5 w6 w7).2.2.1 612 = w7 := rfl
abbrev rmM_placesRead : Room := { frames := 2, cells := 0, slots := 0, locals := 47 }
set_option maxHeartbeats 4000000 in
theorem wkM_placesRead  {r_ : Int32} {w_zI504 : Int32} {w_zI505 : Int32} {w_zI507 : Int32} {w_zI508 : Int32} {w_zI509 : Int32} {w_zI510 : Int32} {w_aI611 : Nat → Int32} {w_aI612 : Nat → Int32} (E : EN p s m args meth c0 RX16 cX16_placesRead 1 (Option.some Jvm.ClassFile.FieldType.boolean)) (hK : KK D clsA G s) (hA : ∀ q, PA dscM ad s.heap.size q → A q) (hf : mo_placesRead (σ.1 504) (σ.1 505) (σ.1 506) (σ.1 507) (σ.1 508) (σ.1 509) (σ.1 510) (σ.2.2.1 600) (σ.2.2.1 603) (σ.2.2.1 611) (σ.2.2.1 612) = some (r_, w_zI504, w_zI505, w_zI507, w_zI508, w_zI509, w_zI510, w_aI611, w_aI612)) (hQ : Q = MQ below (va_Qi (fun x (_ : Unit) => x = r_) (fun _ t => PM D G ad (sgM_placesRead σ w_zI504 w_zI505 w_zI507 w_zI508 w_zI509 w_zI510 w_aI611 w_aI612) t.heap ∧ KK D clsA G t) A) args s 0 0 A) (hP : PM D G ad σ H) (hS : va_S A s.heap H locs) (hl : lv_has ls 1 [(0, .ref (ad 500))]) : W p l e rmM_placesRead s m args below meth c0 H locs 0 0 Q (F0 m 0 ls []) := by
  obtain ⟨⟨hx, hb, hml, hown, hts⟩, hr, hlk⟩ := id E
  have hP := hP.to (sgM_placesRead_self σ).symm
  unfold mo_placesRead at hf
  refine lv_aload_n hx hb dX16_placesRead_0 rfl (lv_at hl 0 rfl) ?_
  obtain ⟨⟨z1, z2, z3, z4⟩, u5, hf⟩ := bdP hf
  dsimp only at hf
  refine cM_take E hK hP hS hA sgM_placesRead_rzI506 sgM_placesRead_rzI507 sgM_placesRead_rzI508 sgM_placesRead_rzI509 sgM_placesRead_rzI510 sgM_placesRead_raI600 sgM_placesRead_raI603 u5 ⟨Nat.le_of_ble_eq_true rfl, Nat.le_of_ble_eq_true rfl⟩ ⟨Nat.zero_le _, Nat.zero_le _⟩ hl.1 (Nat.le_of_ble_eq_true rfl) dX16_placesRead_1 (fun H locs hP hS => ?_)
  rw [sgM_placesRead_zI507, sgM_placesRead_zI508, sgM_placesRead_zI509, sgM_placesRead_zI510] at hP
  refine lv_aload_n hx hb dX16_placesRead_4 rfl (lv_at hl 0 rfl) ?_
  refine gM_8 (v := z2) E hK hP sgM_placesRead_rzI508 dX16_placesRead_5 ?_
  refine lv_iconst hx hb dX16_placesRead_8 ic_2 ?_
  refine lv_icmp_eq (tgt := 18) hx hb dX16_placesRead_9 (by decide) (fun c6 => ?_) (fun c6 => ?_)
  · have hf := ifT c6 hf
    have LP18 : ∀ (st18 : Int32 × Int32 × Int32 × Int32 × (Nat → Int32) × (Nat → Int32)) (ex18 : (Int32 × Int32 × Int32 × Int32 × (Nat → Int32) × (Nat → Int32)) ⊕ (Int32 × Int32 × Int32 × Int32 × (Nat → Int32) × (Nat → Int32)) ⊕ (Int32 × Int32 × Int32 × Int32 × (Nat → Int32) × (Nat → Int32))), loop (mo_placesRead_L18 (σ.1 506) (σ.2.2.1 600) (σ.2.2.1 603)) st18 = some ex18 → ∀ (H : Heap) (locs : List Loc), PM D G ad (sgM_placesRead σ (σ.1 504) (σ.1 505) (st18.1) (st18.2.1) (st18.2.2.1) (st18.2.2.2.1) (st18.2.2.2.2.1) (st18.2.2.2.2.2)) H → va_S A s.heap H locs → ∀ (ls : Array Slot), lv_has ls 1 [(0, .ref (ad 500))] → (∀ (z28 : Int32) (z29 : Int32) (z30 : Int32) (z31 : Int32) (a32 : Nat → Int32) (a33 : Nat → Int32), ex18 = (.inl ((z28, z29, z30, z31, a32, a33))) → ∀ (H : Heap) (locs : List Loc), PM D G ad (sgM_placesRead σ (σ.1 504) (σ.1 505) z28 z29 z30 z31 a32 a33) H → va_S A s.heap H locs → ∀ (ls : Array Slot), lv_has ls 1 [(0, .ref (ad 500))] → W p l e rmM_placesRead s m args below meth c0 H locs 0 0 Q (F0 m 38 ls [])) → (∀ (z34 : Int32) (z35 : Int32) (z36 : Int32) (z37 : Int32) (a38 : Nat → Int32) (a39 : Nat → Int32), ex18 = (.inr (.inl ((z34, z35, z36, z37, a38, a39)))) → ∀ (H : Heap) (locs : List Loc), PM D G ad (sgM_placesRead σ (σ.1 504) (σ.1 505) z34 z35 z36 z37 a38 a39) H → va_S A s.heap H locs → ∀ (ls : Array Slot), lv_has ls 1 [(0, .ref (ad 500))] → W p l e rmM_placesRead s m args below meth c0 H locs 0 0 Q (F0 m 55 ls [])) → (∀ (z40 : Int32) (z41 : Int32) (z42 : Int32) (z43 : Int32) (a44 : Nat → Int32) (a45 : Nat → Int32), ex18 = (.inr (.inr (z40, z41, z42, z43, a44, a45))) → ∀ (H : Heap) (locs : List Loc), PM D G ad (sgM_placesRead σ (σ.1 504) (σ.1 505) z40 z41 z42 z43 a44 a45) H → va_S A s.heap H locs → ∀ (ls : Array Slot), lv_has ls 1 [] → W p l e rmM_placesRead s m args below meth c0 H locs 0 0 Q (F0 m 98 ls [])) → W p l e rmM_placesRead s m args below meth c0 H locs 0 0 Q (F0 m 18 ls []) := by
      refine loop_P (fun st18 ex18 o18 hf ih18 hx18 => ?_)
      obtain ⟨z7, z8, z9, z10, a11, a12⟩ := st18
      intro H locs (hP : PM D G ad (sgM_placesRead σ (σ.1 504) (σ.1 505) z7 z8 z9 z10 a11 a12) H) hS ls (hl : lv_has ls 1 [(0, .ref (ad 500))]) KE18_0 KE18_1 KE18_2
      dsimp only [mo_placesRead_L18] at hf
      refine lv_aload_n hx hb dX16_placesRead_18 rfl (lv_at hl 0 rfl) ?_
      refine gM_8 (v := z8) E hK hP sgM_placesRead_rzI508 dX16_placesRead_19 ?_
      refine lv_iconst hx hb dX16_placesRead_22 ic_2 ?_
      refine lv_icmp_ne (tgt := 98) hx hb dX16_placesRead_23 (by decide) (fun c13 => ?_) (fun c13 => ?_)
      · have hf := ifF c13 hf
        exact KE18_2 _ _ _ _ _ _ (hx18 _ (Option.some.inj hf).symm).symm H locs hP hS ls (lv_sub hl [] rfl)
      · have hf := ifT c13 hf
        refine lv_aload_n hx hb dX16_placesRead_26 rfl (lv_at hl 0 rfl) ?_
        refine gM_11 E hK hP dX16_placesRead_27 ?_
        refine lv_bipush hx hb dX16_placesRead_30 bp_8 ?_
        obtain ⟨v14, hv14, hf⟩ := bdP hf
        refine p_iald hx hb hK hP dM_611 sgM_placesRead_raI611 hv14 dX16_placesRead_32 ?_
        refine lv_bipush hx hb dX16_placesRead_33 bp_10 ?_
        refine lv_icmp_ne (tgt := 44) hx hb dX16_placesRead_35 (by decide) (fun c15 => ?_) (fun c15 => ?_)
        · have hf := ifF c15 hf
          refine lv_aload_n hx hb dX16_placesRead_44 rfl (lv_at hl 0 rfl) ?_
          refine lv_aload_n hx hb dX16_placesRead_45 rfl (lv_at hl 0 rfl) ?_
          refine gM_9 (v := z9) E hK hP sgM_placesRead_rzI509 dX16_placesRead_46 ?_
          obtain ⟨v16, u17, hf⟩ := bdP hf
          refine cM_placeOf E hK hP hS hA sgM_placesRead_raI611 sgM_placesRead_raI612 u17 ⟨Nat.le_of_ble_eq_true rfl, Nat.le_of_ble_eq_true rfl⟩ ⟨Nat.zero_le _, Nat.zero_le _⟩ hl.1 (Nat.le_of_ble_eq_true rfl) dX16_placesRead_49 (fun H locs hP hS => ?_)
          refine lv_if_lt (tgt := 61) hx hb dX16_placesRead_52 (by decide) (fun c18 => ?_) (fun c18 => ?_)
          · have hf := ifT c18 hf
            refine lv_aload_n hx hb dX16_placesRead_61 rfl (lv_at hl 0 rfl) ?_
            refine gM_12 E hK hP dX16_placesRead_62 ?_
            refine lv_bipush hx hb dX16_placesRead_65 bp_10 ?_
            refine lv_aload_n hx hb dX16_placesRead_67 rfl (lv_at hl 0 rfl) ?_
            refine gM_11 E hK hP dX16_placesRead_68 ?_
            refine lv_bipush hx hb dX16_placesRead_71 bp_8 ?_
            obtain ⟨v19, hv19, hf⟩ := bdP hf
            refine p_iald hx hb hK hP dM_611 sgM_placesRead_raI611 hv19 dX16_placesRead_73 ?_
            refine lv_iadd hx hb dX16_placesRead_74 ?_
            refine lv_aload_n hx hb dX16_placesRead_75 rfl (lv_at hl 0 rfl) ?_
            refine gM_9 (v := z9) E hK hP sgM_placesRead_rzI509 dX16_placesRead_76 ?_
            obtain ⟨a20, ha20, hf⟩ := bdP hf
            refine p_iast hx hb hK hP hS (hA _ (PA_c dM_612)) dM_612 sgM_placesRead_raI612 ha20 sgM_placesRead_aI612 dX16_placesRead_79 (fun H locs hP hS => ?_)
            refine lv_aload_n hx hb dX16_placesRead_80 rfl (lv_at hl 0 rfl) ?_
            refine gM_11 E hK hP dX16_placesRead_81 ?_
            refine lv_bipush hx hb dX16_placesRead_84 bp_8 ?_
            refine lv_dup2_11 hx hb dX16_placesRead_86 rfl rfl ?_
            obtain ⟨v21, hv21, hf⟩ := bdP hf
            refine p_iald hx hb hK hP dM_611 sgM_placesRead_raI611 hv21 dX16_placesRead_87 ?_
            refine lv_iconst hx hb dX16_placesRead_88 ic_1 ?_
            refine lv_iadd hx hb dX16_placesRead_89 ?_
            obtain ⟨a22, ha22, hf⟩ := bdP hf
            refine p_iast hx hb hK hP hS (hA _ (PA_c dM_611)) dM_611 sgM_placesRead_raI611 ha22 sgM_placesRead_aI611 dX16_placesRead_90 (fun H locs hP hS => ?_)
            refine lv_aload_n hx hb dX16_placesRead_91 rfl (lv_at hl 0 rfl) ?_
            obtain ⟨⟨z23, z24, z25, z26⟩, u27, hf⟩ := bdP hf
            dsimp only at hf
            refine cM_take E hK hP hS hA sgM_placesRead_rzI506 sgM_placesRead_rzI507 sgM_placesRead_rzI508 sgM_placesRead_rzI509 sgM_placesRead_rzI510 sgM_placesRead_raI600 sgM_placesRead_raI603 u27 ⟨Nat.le_of_ble_eq_true rfl, Nat.le_of_ble_eq_true rfl⟩ ⟨Nat.zero_le _, Nat.zero_le _⟩ hl.1 (Nat.le_of_ble_eq_true rfl) dX16_placesRead_92 (fun H locs hP hS => ?_)
            rw [sgM_placesRead_zI507, sgM_placesRead_zI508, sgM_placesRead_zI509, sgM_placesRead_zI510] at hP
            refine lv_goto (tgt := 18) hx hb dX16_placesRead_95 (by decide) ?_
            exact ih18 _ (Option.some.inj hf).symm H locs hP hS ls (lv_sub hl [0] rfl) KE18_0 KE18_1 KE18_2
          · have hf := ifF c18 hf
            exact KE18_1 _ _ _ _ _ _ (hx18 _ (Option.some.inj hf).symm).symm H locs hP hS ls (lv_sub hl [0] rfl)
        · have hf := ifT c15 hf
          exact KE18_0 _ _ _ _ _ _ (hx18 _ (Option.some.inj hf).symm).symm H locs hP hS ls (lv_sub hl [0] rfl)
    obtain ⟨ex18, hlp18, hf⟩ := bdP hf
    refine LP18 (z1, z2, z3, z4, (σ.2.2.1 611), (σ.2.2.1 612)) ex18 hlp18 H locs hP hS ls (lv_sub hl [0] rfl) ?_ ?_ ?_
    · intro z28 z29 z30 z31 a32 a33 hex18 H locs hP hS ls hl
      subst ex18
      dsimp only [sE_l, sE_r] at hf
      refine lv_aload_n hx hb dX16_placesRead_38 rfl (lv_at hl 0 rfl) ?_
      refine lv_iconst hx hb dX16_placesRead_39 ic_2 ?_
      obtain ⟨⟨v46, z47, z48⟩, u49, hf⟩ := bdP hf
      dsimp only at hf
      refine cM_wrong E hK hP hS hA sgM_placesRead_rzI504 sgM_placesRead_rzI505 sgM_placesRead_rzI510 u49 ⟨Nat.le_of_ble_eq_true rfl, Nat.le_of_ble_eq_true rfl⟩ ⟨Nat.zero_le _, Nat.zero_le _⟩ hl.1 (Nat.le_of_ble_eq_true rfl) dX16_placesRead_40 (fun H locs hP hS => ?_)
      rw [sgM_placesRead_zI504, sgM_placesRead_zI505] at hP
      obtain ⟨v50, hv50, hf⟩ := bdP hf
      obtain ⟨hv50a, hv50b⟩ := retZ_some hv50
      subst hv50a
      cases hf
      rw [hQ]; exact p_zret hx hb hr hlk hK hP hS hv50b dX16_placesRead_43
    · intro z34 z35 z36 z37 a38 a39 hex18 H locs hP hS ls hl
      subst ex18
      dsimp only [sE_l, sE_r] at hf
      refine lv_aload_n hx hb dX16_placesRead_55 rfl (lv_at hl 0 rfl) ?_
      refine lv_iconst hx hb dX16_placesRead_56 ic_3 ?_
      obtain ⟨⟨v51, z52, z53⟩, u54, hf⟩ := bdP hf
      dsimp only at hf
      refine cM_wrong E hK hP hS hA sgM_placesRead_rzI504 sgM_placesRead_rzI505 sgM_placesRead_rzI510 u54 ⟨Nat.le_of_ble_eq_true rfl, Nat.le_of_ble_eq_true rfl⟩ ⟨Nat.zero_le _, Nat.zero_le _⟩ hl.1 (Nat.le_of_ble_eq_true rfl) dX16_placesRead_57 (fun H locs hP hS => ?_)
      rw [sgM_placesRead_zI504, sgM_placesRead_zI505] at hP
      obtain ⟨v55, hv55, hf⟩ := bdP hf
      obtain ⟨hv55a, hv55b⟩ := retZ_some hv55
      subst hv55a
      cases hf
      rw [hQ]; exact p_zret hx hb hr hlk hK hP hS hv55b dX16_placesRead_60
    · intro z40 z41 z42 z43 a44 a45 hex18 H locs hP hS ls hl
      subst ex18
      dsimp only [sE_l, sE_r] at hf
      refine lv_iconst hx hb dX16_placesRead_98 ic_1 ?_
      cases hf
      rw [hQ]; exact p_zret hx hb hr hlk hK hP hS rfl dX16_placesRead_99
  · have hf := ifF c6 hf
    refine lv_aload_n hx hb dX16_placesRead_12 rfl (lv_at hl 0 rfl) ?_
    refine lv_iconst hx hb dX16_placesRead_13 ic_1 ?_
    obtain ⟨⟨v56, z57, z58⟩, u59, hf⟩ := bdP hf
    dsimp only at hf
    refine cM_wrong E hK hP hS hA sgM_placesRead_rzI504 sgM_placesRead_rzI505 sgM_placesRead_rzI510 u59 ⟨Nat.le_of_ble_eq_true rfl, Nat.le_of_ble_eq_true rfl⟩ ⟨Nat.zero_le _, Nat.zero_le _⟩ hl.1 (Nat.le_of_ble_eq_true rfl) dX16_placesRead_14 (fun H locs hP hS => ?_)
    rw [sgM_placesRead_zI504, sgM_placesRead_zI505] at hP
    obtain ⟨v60, hv60, hf⟩ := bdP hf
    obtain ⟨hv60a, hv60b⟩ := retZ_some hv60
    subst hv60a
    cases hf
    rw [hQ]; exact p_zret hx hb hr hlk hK hP hS hv60b dX16_placesRead_17
theorem kM_placesRead (l : Launch) (D : va_G) (G : Nat → ClassId) (ad : Nat → Nat) (σ : Sto) {r_ : Int32} {w_zI504 : Int32} {w_zI505 : Int32} {w_zI507 : Int32} {w_zI508 : Int32} {w_zI509 : Int32} {w_zI510 : Int32} {w_aI611 : Nat → Int32} {w_aI612 : Nat → Int32} (hf : mo_placesRead (σ.1 504) (σ.1 505) (σ.1 506) (σ.1 507) (σ.1 508) (σ.1 509) (σ.1 510) (σ.2.2.1 600) (σ.2.2.1 603) (σ.2.2.1 611) (σ.2.2.1 612) = some (r_, w_zI504, w_zI505, w_zI507, w_zI508, w_zI509, w_zI510, w_aI611, w_aI612)) : CtI l D clsA G dscM ad yX16_placesRead (ws_ yX16_placesRead cX16_placesRead 1 (Option.some Jvm.ClassFile.FieldType.boolean)) rmM_placesRead [.ref (ad 500)] σ r_ (sgM_placesRead σ w_zI504 w_zI505 w_zI507 w_zI508 w_zI509 w_zI510 w_aI611 w_aI612) :=
  p_ctI (by decide +kernel) (Nat.le_of_ble_eq_true rfl) (fun p e s m below meth c0 ls A E hP hK hA hS hl => wkM_placesRead E hK hA hf rfl hP hS hl)
theorem cM_placesRead (E : EN p s m args meth c0 RX16 cc nL ret) (hK : KK D clsA G s) (hP : PM D G ad σ H) (hS : va_S A s.heap H locs) (hA : ∀ q, PA dscM ad s.heap.size q → A q) {r_ : Int32} {w_zI504 : Int32} {w_zI505 : Int32} {w_zI507 : Int32} {w_zI508 : Int32} {w_zI509 : Int32} {w_zI510 : Int32} {w_aI611 : Nat → Int32} {w_aI612 : Nat → Int32} {z_fault : Int32} (e_zI504 : σ.1 504 = z_fault) {z_faultPlace : Int32} (e_zI505 : σ.1 505 = z_faultPlace) {z_stop : Int32} (e_zI506 : σ.1 506 = z_stop) {z_next : Int32} (e_zI507 : σ.1 507 = z_next) {z_kind : Int32} (e_zI508 : σ.1 508 = z_kind) {z_which : Int32} (e_zI509 : σ.1 509 = z_which) {z_at : Int32} (e_zI510 : σ.1 510 = z_at) {a_tape : Nat → Int32} (e_aI600 : σ.2.2.1 600 = a_tape) {a_words : Nat → Int32} (e_aI603 : σ.2.2.1 603 = a_words) {a_many : Nat → Int32} (e_aI611 : σ.2.2.1 611 = a_many) {a_placeName : Nat → Int32} (e_aI612 : σ.2.2.1 612 = a_placeName) (hu : mo_placesRead z_fault z_faultPlace z_stop z_next z_kind z_which z_at a_tape a_words a_many a_placeName = some (r_, w_zI504, w_zI505, w_zI507, w_zI508, w_zI509, w_zI510, w_aI611, w_aI612)) (hR : rmM_placesRead.frames + 1 ≤ R.frames ∧ 8 + (1 + 11) + rmM_placesRead.locals ≤ R.locals) (hcs : cells ≤ R.cells ∧ slots ≤ R.slots) (hsz : ls.size = nL) (hW : (rest.map fun v => v.category).sum ≤ 8) (hdg : decode cc pc = .ok (.invokevirtual 213, 3)) (kk : ∀ (H1 : Heap) (locs1 : List Loc), PM D G ad (aI (aI (zI (zI (zI (zI (zI (zI σ 504 w_zI504) 505 w_zI505) 507 w_zI507) 508 w_zI508) 509 w_zI509) 510 w_zI510) 611 w_aI611) 612 w_aI612) H1 → va_S A s.heap H1 locs1 → W p l e R s m args below meth c0 H1 locs1 cells slots Q (F0 m (pc + 3) ls (.int r_ :: rest))) : W p l e R s m args below meth c0 H locs cells slots Q (F0 m pc ls (.ref (ad 500) :: rest)) := by
  subst e_zI504
  subst e_zI505
  subst e_zI506
  subst e_zI507
  subst e_zI508
  subst e_zI509
  subst e_zI510
  subst e_aI600
  subst e_aI603
  subst e_aI611
  subst e_aI612
  exact p_callI (As := []) (rest := rest) E.1 hK hP hS hA (kM_placesRead l D G ad σ hu) (cwV 0 E.1.2.2.2.2 (lw_V q1902 q1904 qs61 q142 q1905) rfl rfl rfl (by decide +kernel) hR) dM_500 rfl rfl rfl hsz rfl hW hdg hcs kk
/-! isDoubtRoom()Z -/
def sgM_isDoubtRoom (σ : Sto) (w0 : Int32) (w1 : Int32) : Sto := zI (zI σ 504 w0) 505 w1
theorem sgM_isDoubtRoom_self (σ : Sto) : sgM_isDoubtRoom σ (σ.1 504) (σ.1 505) = σ := by
  unfold sgM_isDoubtRoom
  simp only [zI_self, zL_self, aI_self, aL_self]
theorem sgM_isDoubtRoom_zI504 {σ : Sto} {w0 : Int32} {w1 : Int32} {g : Int32} : zI (sgM_isDoubtRoom σ w0 w1) 504 g = sgM_isDoubtRoom σ g w1 := (zI_comm _ (by decide) _ _).trans (congrArg (fun z => zI z 505 w1) (zI_zI _ 504 _ _))
theorem sgM_isDoubtRoom_zI505 {σ : Sto} {w0 : Int32} {w1 : Int32} {g : Int32} : zI (sgM_isDoubtRoom σ w0 w1) 505 g = sgM_isDoubtRoom σ w0 g := zI_zI _ 505 _ _
theorem sgM_isDoubtRoom_rzI504 {σ : Sto} {w0 : Int32} {w1 : Int32} : (sgM_isDoubtRoom σ w0 w1).1 504 = w0 := rfl
theorem sgM_isDoubtRoom_rzI505 {σ : Sto} {w0 : Int32} {w1 : Int32} : (sgM_isDoubtRoom σ w0 w1).1 505 = w1 := rfl
theorem sgM_isDoubtRoom_rzI510 {σ : Sto} {w0 : Int32} {w1 : Int32} : (sgM_isDoubtRoom σ w0 w1).1 510 = σ.1 510 := rfl
theorem sgM_isDoubtRoom_raI611 {σ : Sto} {w0 : Int32} {w1 : Int32} : (sgM_isDoubtRoom σ w0 w1).2.2.1 611 = σ.2.2.1 611 := rfl
abbrev rmM_isDoubtRoom : Room := { frames := 1, cells := 0, slots := 0, locals := 21 }
set_option maxHeartbeats 4000000 in
theorem wkM_isDoubtRoom  {r_ : Int32} {w_zI504 : Int32} {w_zI505 : Int32} (E : EN p s m args meth c0 RX16 cX16_isDoubtRoom 1 (Option.some Jvm.ClassFile.FieldType.boolean)) (hK : KK D clsA G s) (hA : ∀ q, PA dscM ad s.heap.size q → A q) (hf : mo_isDoubtRoom (σ.1 504) (σ.1 505) (σ.1 510) (σ.2.2.1 611) = some (r_, w_zI504, w_zI505)) (hQ : Q = MQ below (va_Qi (fun x (_ : Unit) => x = r_) (fun _ t => PM D G ad (sgM_isDoubtRoom σ w_zI504 w_zI505) t.heap ∧ KK D clsA G t) A) args s 0 0 A) (hP : PM D G ad σ H) (hS : va_S A s.heap H locs) (hl : lv_has ls 1 [(0, .ref (ad 500))]) : W p l e rmM_isDoubtRoom s m args below meth c0 H locs 0 0 Q (F0 m 0 ls []) := by
  obtain ⟨⟨hx, hb, hml, hown, hts⟩, hr, hlk⟩ := id E
  have hP := hP.to (sgM_isDoubtRoom_self σ).symm
  unfold mo_isDoubtRoom at hf
  refine lv_aload_n hx hb dX16_isDoubtRoom_0 rfl (lv_at hl 0 rfl) ?_
  refine gM_11 E hK hP dX16_isDoubtRoom_1 ?_
  refine lv_bipush hx hb dX16_isDoubtRoom_4 bp_11 ?_
  obtain ⟨v1, hv1, hf⟩ := bdP hf
  refine p_iald hx hb hK hP dM_611 sgM_isDoubtRoom_raI611 hv1 dX16_isDoubtRoom_6 ?_
  refine lv_bipush hx hb dX16_isDoubtRoom_7 bp_6 ?_
  have J20 : ∀ (z2 : Int32) (z3 : Int32), mo_isDoubtRoom_J20 z2 z3 = some (r_, w_zI504, w_zI505) → ∀ (H : Heap) (locs : List Loc), PM D G ad (sgM_isDoubtRoom σ z2 z3) H → va_S A s.heap H locs → ∀ (ls : Array Slot), lv_has ls 1 [] → W p l e rmM_isDoubtRoom s m args below meth c0 H locs 0 0 Q (F0 m 20 ls []) := by
    intro z2 z3 hf H locs hP hS ls hl
    unfold mo_isDoubtRoom_J20 at hf
    refine lv_iconst hx hb dX16_isDoubtRoom_20 ic_1 ?_
    refine lv_goto (tgt := 25) hx hb dX16_isDoubtRoom_21 (by decide) ?_
    cases hf
    rw [hQ]; exact p_zret hx hb hr hlk hK hP hS rfl dX16_isDoubtRoom_25
  refine lv_icmp_lt (tgt := 20) hx hb dX16_isDoubtRoom_9 (by decide) (fun c4 => ?_) (fun c4 => ?_)
  · have hf := ifT c4 hf
    exact J20 (σ.1 504) (σ.1 505) hf H locs hP hS ls (lv_sub hl [] rfl)
  · have hf := ifF c4 hf
    refine lv_aload_n hx hb dX16_isDoubtRoom_12 rfl (lv_at hl 0 rfl) ?_
    refine lv_iconst hx hb dX16_isDoubtRoom_13 ic_2 ?_
    obtain ⟨⟨v5, z6, z7⟩, u8, hf⟩ := bdP hf
    dsimp only at hf
    refine cM_wrong E hK hP hS hA sgM_isDoubtRoom_rzI504 sgM_isDoubtRoom_rzI505 sgM_isDoubtRoom_rzI510 u8 ⟨Nat.le_of_ble_eq_true rfl, Nat.le_of_ble_eq_true rfl⟩ ⟨Nat.zero_le _, Nat.zero_le _⟩ hl.1 (Nat.le_of_ble_eq_true rfl) dX16_isDoubtRoom_14 (fun H locs hP hS => ?_)
    rw [sgM_isDoubtRoom_zI504, sgM_isDoubtRoom_zI505] at hP
    refine lv_if_eq (tgt := 24) hx hb dX16_isDoubtRoom_17 (by decide) (fun c9 => ?_) (fun c9 => ?_)
    · have hf := ifT c9 hf
      refine lv_iconst hx hb dX16_isDoubtRoom_24 ic_0 ?_
      cases hf
      rw [hQ]; exact p_zret hx hb hr hlk hK hP hS rfl dX16_isDoubtRoom_25
    · have hf := ifF c9 hf
      exact J20 z6 z7 hf H locs hP hS ls (lv_sub hl [] rfl)
theorem kM_isDoubtRoom (l : Launch) (D : va_G) (G : Nat → ClassId) (ad : Nat → Nat) (σ : Sto) {r_ : Int32} {w_zI504 : Int32} {w_zI505 : Int32} (hf : mo_isDoubtRoom (σ.1 504) (σ.1 505) (σ.1 510) (σ.2.2.1 611) = some (r_, w_zI504, w_zI505)) : CtI l D clsA G dscM ad yX16_isDoubtRoom (ws_ yX16_isDoubtRoom cX16_isDoubtRoom 1 (Option.some Jvm.ClassFile.FieldType.boolean)) rmM_isDoubtRoom [.ref (ad 500)] σ r_ (sgM_isDoubtRoom σ w_zI504 w_zI505) :=
  p_ctI (by decide +kernel) (Nat.le_of_ble_eq_true rfl) (fun p e s m below meth c0 ls A E hP hK hA hS hl => wkM_isDoubtRoom E hK hA hf rfl hP hS hl)
theorem cM_isDoubtRoom (E : EN p s m args meth c0 RX16 cc nL ret) (hK : KK D clsA G s) (hP : PM D G ad σ H) (hS : va_S A s.heap H locs) (hA : ∀ q, PA dscM ad s.heap.size q → A q) {r_ : Int32} {w_zI504 : Int32} {w_zI505 : Int32} {z_fault : Int32} (e_zI504 : σ.1 504 = z_fault) {z_faultPlace : Int32} (e_zI505 : σ.1 505 = z_faultPlace) {z_at : Int32} (e_zI510 : σ.1 510 = z_at) {a_many : Nat → Int32} (e_aI611 : σ.2.2.1 611 = a_many) (hu : mo_isDoubtRoom z_fault z_faultPlace z_at a_many = some (r_, w_zI504, w_zI505)) (hR : rmM_isDoubtRoom.frames + 1 ≤ R.frames ∧ 8 + (1 + 11) + rmM_isDoubtRoom.locals ≤ R.locals) (hcs : cells ≤ R.cells ∧ slots ≤ R.slots) (hsz : ls.size = nL) (hW : (rest.map fun v => v.category).sum ≤ 8) (hdg : decode cc pc = .ok (.invokevirtual 206, 3)) (kk : ∀ (H1 : Heap) (locs1 : List Loc), PM D G ad (zI (zI σ 504 w_zI504) 505 w_zI505) H1 → va_S A s.heap H1 locs1 → W p l e R s m args below meth c0 H1 locs1 cells slots Q (F0 m (pc + 3) ls (.int r_ :: rest))) : W p l e R s m args below meth c0 H locs cells slots Q (F0 m pc ls (.ref (ad 500) :: rest)) := by
  subst e_zI504
  subst e_zI505
  subst e_zI510
  subst e_aI611
  exact p_callI (As := []) (rest := rest) E.1 hK hP hS hA (kM_isDoubtRoom l D G ad σ hu) (cwV 0 E.1.2.2.2.2 (lw_V q1938 q1940 qs70 q142 q1941) rfl rfl rfl (by decide +kernel) hR) dM_500 rfl rfl rfl hsz rfl hW hdg hcs kk
/-! isKey(I)Z -/
abbrev rmM_isKey : Room := { frames := 0, cells := 0, slots := 0, locals := 0 }
set_option maxHeartbeats 4000000 in
theorem wkM_isKey {x1 : Int32} {r_ : Int32} (E : EN p s m args meth c0 RX16 cX16_isKey 2 (Option.some Jvm.ClassFile.FieldType.boolean)) (hK : KK D clsA G s) (hA : ∀ q, PA dscM ad s.heap.size q → A q) (hf : mo_isKey (σ.1 508) (σ.1 509) x1 = some r_) (hQ : Q = MQ below (va_Qi (fun x (_ : Unit) => x = r_) (fun _ t => PM D G ad σ t.heap ∧ KK D clsA G t) A) args s 0 0 A) (hP : PM D G ad σ H) (hS : va_S A s.heap H locs) (hl : lv_has ls 2 [(0, .ref (ad 500)), (1, .int x1)]) : W p l e rmM_isKey s m args below meth c0 H locs 0 0 Q (F0 m 0 ls []) := by
  obtain ⟨⟨hx, hb, hml, hown, hts⟩, hr, hlk⟩ := id E
  unfold mo_isKey at hf
  refine lv_aload_n hx hb dX16_isKey_0 rfl (lv_at hl 0 rfl) ?_
  refine gM_8 (v := (σ.1 508)) E hK hP rfl dX16_isKey_1 ?_
  refine lv_iconst hx hb dX16_isKey_4 ic_1 ?_
  have J20 : mo_isKey_J20 = some r_ → ∀ (H : Heap) (locs : List Loc), PM D G ad σ H → va_S A s.heap H locs → ∀ (ls : Array Slot), lv_has ls 2 [] → W p l e rmM_isKey s m args below meth c0 H locs 0 0 Q (F0 m 20 ls []) := by
    intro  hf H locs hP hS ls hl
    unfold mo_isKey_J20 at hf
    refine lv_iconst hx hb dX16_isKey_20 ic_0 ?_
    cases hf
    rw [hQ]; exact p_zret hx hb hr hlk hK hP hS rfl dX16_isKey_21
  refine lv_icmp_ne (tgt := 20) hx hb dX16_isKey_5 (by decide) (fun c1 => ?_) (fun c1 => ?_)
  · have hf := ifF c1 hf
    exact J20  hf H locs hP hS ls (lv_sub hl [] rfl)
  · have hf := ifT c1 hf
    refine lv_aload_n hx hb dX16_isKey_8 rfl (lv_at hl 0 rfl) ?_
    refine gM_9 (v := (σ.1 509)) E hK hP rfl dX16_isKey_9 ?_
    refine lv_iload_n hx hb dX16_isKey_12 rfl (lv_at hl 1 rfl) ?_
    refine lv_icmp_ne (tgt := 20) hx hb dX16_isKey_13 (by decide) (fun c2 => ?_) (fun c2 => ?_)
    · have hf := ifF c2 hf
      exact J20  hf H locs hP hS ls (lv_sub hl [] rfl)
    · have hf := ifT c2 hf
      refine lv_iconst hx hb dX16_isKey_16 ic_1 ?_
      refine lv_goto (tgt := 21) hx hb dX16_isKey_17 (by decide) ?_
      cases hf
      rw [hQ]; exact p_zret hx hb hr hlk hK hP hS rfl dX16_isKey_21
theorem kM_isKey (l : Launch) (D : va_G) (G : Nat → ClassId) (ad : Nat → Nat) (σ : Sto) {x1 : Int32} {r_ : Int32} (hf : mo_isKey (σ.1 508) (σ.1 509) x1 = some r_) : CtI l D clsA G dscM ad yX16_isKey (ws_ yX16_isKey cX16_isKey 2 (Option.some Jvm.ClassFile.FieldType.boolean)) rmM_isKey [.ref (ad 500), .int x1] σ r_ σ :=
  p_ctI (by decide +kernel) (Nat.le_of_ble_eq_true rfl) (fun p e s m below meth c0 ls A E hP hK hA hS hl => wkM_isKey E hK hA hf rfl hP hS hl)
theorem cM_isKey (E : EN p s m args meth c0 RX16 cc nL ret) (hK : KK D clsA G s) (hP : PM D G ad σ H) (hS : va_S A s.heap H locs) (hA : ∀ q, PA dscM ad s.heap.size q → A q) {x1 : Int32} {r_ : Int32} {z_kind : Int32} (e_zI508 : σ.1 508 = z_kind) {z_which : Int32} (e_zI509 : σ.1 509 = z_which) (hu : mo_isKey z_kind z_which x1 = some r_) (hR : rmM_isKey.frames + 1 ≤ R.frames ∧ 8 + (2 + 11) + rmM_isKey.locals ≤ R.locals) (hcs : cells ≤ R.cells ∧ slots ≤ R.slots) (hsz : ls.size = nL) (hW : (rest.map fun v => v.category).sum ≤ 8) (hdg : decode cc pc = .ok (.invokevirtual 203, 3)) (kk : ∀ (H1 : Heap) (locs1 : List Loc), PM D G ad σ H1 → va_S A s.heap H1 locs1 → W p l e R s m args below meth c0 H1 locs1 cells slots Q (F0 m (pc + 3) ls (.int r_ :: rest))) : W p l e R s m args below meth c0 H locs cells slots Q (F0 m pc ls (.int x1 :: .ref (ad 500) :: rest)) := by
  subst e_zI508
  subst e_zI509
  exact p_callI (As := [.int x1]) (rest := rest) E.1 hK hP hS hA (kM_isKey l D G ad σ hu) (cwV 1 E.1.2.2.2.2 (lw_V q1934 q1936 qs69 q142 q1937) rfl rfl rfl (by decide +kernel) hR) dM_500 rfl rfl rfl hsz rfl hW hdg hcs kk
/-! roadRead()Z -/
def sgM_roadRead (σ : Sto) (w0 : Int32) (w1 : Int32) (w2 : Int32) (w3 : Int32) (w4 : Int32) (w5 : Int32) (w6 : Int32) (w7 : Nat → Int32) (w8 : Nat → Int32) (w9 : Nat → Int32) : Sto := aI (aI (aI (zI (zI (zI (zI (zI (zI (zI σ 504 w0) 505 w1) 507 w2) 508 w3) 509 w4) 510 w5) 519 w6) 611 w7) 615 w8) 616 w9
theorem sgM_roadRead_self (σ : Sto) : sgM_roadRead σ (σ.1 504) (σ.1 505) (σ.1 507) (σ.1 508) (σ.1 509) (σ.1 510) (σ.1 519) (σ.2.2.1 611) (σ.2.2.1 615) (σ.2.2.1 616) = σ := by
  unfold sgM_roadRead
  simp only [zI_self, zL_self, aI_self, aL_self]
theorem sgM_roadRead_zI504 {σ : Sto} {w0 : Int32} {w1 : Int32} {w2 : Int32} {w3 : Int32} {w4 : Int32} {w5 : Int32} {w6 : Int32} {w7 : Nat → Int32} {w8 : Nat → Int32} {w9 : Nat → Int32} {g : Int32} : zI (sgM_roadRead σ w0 w1 w2 w3 w4 w5 w6 w7 w8 w9) 504 g = sgM_roadRead σ g w1 w2 w3 w4 w5 w6 w7 w8 w9 := (cm_zI_aI _ _ _ _ _).trans (congrArg (fun z => aI z 616 w9) ((cm_zI_aI _ _ _ _ _).trans (congrArg (fun z => aI z 615 w8) ((cm_zI_aI _ _ _ _ _).trans (congrArg (fun z => aI z 611 w7) ((zI_comm _ (by decide) _ _).trans (congrArg (fun z => zI z 519 w6) ((zI_comm _ (by decide) _ _).trans (congrArg (fun z => zI z 510 w5) ((zI_comm _ (by decide) _ _).trans (congrArg (fun z => zI z 509 w4) ((zI_comm _ (by decide) _ _).trans (congrArg (fun z => zI z 508 w3) ((zI_comm _ (by decide) _ _).trans (congrArg (fun z => zI z 507 w2) ((zI_comm _ (by decide) _ _).trans (congrArg (fun z => zI z 505 w1) (zI_zI _ 504 _ _))))))))))))))))))
theorem sgM_roadRead_zI505 {σ : Sto} {w0 : Int32} {w1 : Int32} {w2 : Int32} {w3 : Int32} {w4 : Int32} {w5 : Int32} {w6 : Int32} {w7 : Nat → Int32} {w8 : Nat → Int32} {w9 : Nat → Int32} {g : Int32} : zI (sgM_roadRead σ w0 w1 w2 w3 w4 w5 w6 w7 w8 w9) 505 g = sgM_roadRead σ w0 g w2 w3 w4 w5 w6 w7 w8 w9 := (cm_zI_aI _ _ _ _ _).trans (congrArg (fun z => aI z 616 w9) ((cm_zI_aI _ _ _ _ _).trans (congrArg (fun z => aI z 615 w8) ((cm_zI_aI _ _ _ _ _).trans (congrArg (fun z => aI z 611 w7) ((zI_comm _ (by decide) _ _).trans (congrArg (fun z => zI z 519 w6) ((zI_comm _ (by decide) _ _).trans (congrArg (fun z => zI z 510 w5) ((zI_comm _ (by decide) _ _).trans (congrArg (fun z => zI z 509 w4) ((zI_comm _ (by decide) _ _).trans (congrArg (fun z => zI z 508 w3) ((zI_comm _ (by decide) _ _).trans (congrArg (fun z => zI z 507 w2) (zI_zI _ 505 _ _))))))))))))))))
theorem sgM_roadRead_zI507 {σ : Sto} {w0 : Int32} {w1 : Int32} {w2 : Int32} {w3 : Int32} {w4 : Int32} {w5 : Int32} {w6 : Int32} {w7 : Nat → Int32} {w8 : Nat → Int32} {w9 : Nat → Int32} {g : Int32} : zI (sgM_roadRead σ w0 w1 w2 w3 w4 w5 w6 w7 w8 w9) 507 g = sgM_roadRead σ w0 w1 g w3 w4 w5 w6 w7 w8 w9 := (cm_zI_aI _ _ _ _ _).trans (congrArg (fun z => aI z 616 w9) ((cm_zI_aI _ _ _ _ _).trans (congrArg (fun z => aI z 615 w8) ((cm_zI_aI _ _ _ _ _).trans (congrArg (fun z => aI z 611 w7) ((zI_comm _ (by decide) _ _).trans (congrArg (fun z => zI z 519 w6) ((zI_comm _ (by decide) _ _).trans (congrArg (fun z => zI z 510 w5) ((zI_comm _ (by decide) _ _).trans (congrArg (fun z => zI z 509 w4) ((zI_comm _ (by decide) _ _).trans (congrArg (fun z => zI z 508 w3) (zI_zI _ 507 _ _))))))))))))))
theorem sgM_roadRead_zI508 {σ : Sto} {w0 : Int32} {w1 : Int32} {w2 : Int32} {w3 : Int32} {w4 : Int32} {w5 : Int32} {w6 : Int32} {w7 : Nat → Int32} {w8 : Nat → Int32} {w9 : Nat → Int32} {g : Int32} : zI (sgM_roadRead σ w0 w1 w2 w3 w4 w5 w6 w7 w8 w9) 508 g = sgM_roadRead σ w0 w1 w2 g w4 w5 w6 w7 w8 w9 := (cm_zI_aI _ _ _ _ _).trans (congrArg (fun z => aI z 616 w9) ((cm_zI_aI _ _ _ _ _).trans (congrArg (fun z => aI z 615 w8) ((cm_zI_aI _ _ _ _ _).trans (congrArg (fun z => aI z 611 w7) ((zI_comm _ (by decide) _ _).trans (congrArg (fun z => zI z 519 w6) ((zI_comm _ (by decide) _ _).trans (congrArg (fun z => zI z 510 w5) ((zI_comm _ (by decide) _ _).trans (congrArg (fun z => zI z 509 w4) (zI_zI _ 508 _ _))))))))))))
theorem sgM_roadRead_zI509 {σ : Sto} {w0 : Int32} {w1 : Int32} {w2 : Int32} {w3 : Int32} {w4 : Int32} {w5 : Int32} {w6 : Int32} {w7 : Nat → Int32} {w8 : Nat → Int32} {w9 : Nat → Int32} {g : Int32} : zI (sgM_roadRead σ w0 w1 w2 w3 w4 w5 w6 w7 w8 w9) 509 g = sgM_roadRead σ w0 w1 w2 w3 g w5 w6 w7 w8 w9 := (cm_zI_aI _ _ _ _ _).trans (congrArg (fun z => aI z 616 w9) ((cm_zI_aI _ _ _ _ _).trans (congrArg (fun z => aI z 615 w8) ((cm_zI_aI _ _ _ _ _).trans (congrArg (fun z => aI z 611 w7) ((zI_comm _ (by decide) _ _).trans (congrArg (fun z => zI z 519 w6) ((zI_comm _ (by decide) _ _).trans (congrArg (fun z => zI z 510 w5) (zI_zI _ 509 _ _))))))))))
theorem sgM_roadRead_zI510 {σ : Sto} {w0 : Int32} {w1 : Int32} {w2 : Int32} {w3 : Int32} {w4 : Int32} {w5 : Int32} {w6 : Int32} {w7 : Nat → Int32} {w8 : Nat → Int32} {w9 : Nat → Int32} {g : Int32} : zI (sgM_roadRead σ w0 w1 w2 w3 w4 w5 w6 w7 w8 w9) 510 g = sgM_roadRead σ w0 w1 w2 w3 w4 g w6 w7 w8 w9 := (cm_zI_aI _ _ _ _ _).trans (congrArg (fun z => aI z 616 w9) ((cm_zI_aI _ _ _ _ _).trans (congrArg (fun z => aI z 615 w8) ((cm_zI_aI _ _ _ _ _).trans (congrArg (fun z => aI z 611 w7) ((zI_comm _ (by decide) _ _).trans (congrArg (fun z => zI z 519 w6) (zI_zI _ 510 _ _))))))))
theorem sgM_roadRead_zI519 {σ : Sto} {w0 : Int32} {w1 : Int32} {w2 : Int32} {w3 : Int32} {w4 : Int32} {w5 : Int32} {w6 : Int32} {w7 : Nat → Int32} {w8 : Nat → Int32} {w9 : Nat → Int32} {g : Int32} : zI (sgM_roadRead σ w0 w1 w2 w3 w4 w5 w6 w7 w8 w9) 519 g = sgM_roadRead σ w0 w1 w2 w3 w4 w5 g w7 w8 w9 := (cm_zI_aI _ _ _ _ _).trans (congrArg (fun z => aI z 616 w9) ((cm_zI_aI _ _ _ _ _).trans (congrArg (fun z => aI z 615 w8) ((cm_zI_aI _ _ _ _ _).trans (congrArg (fun z => aI z 611 w7) (zI_zI _ 519 _ _))))))
theorem sgM_roadRead_aI611 {σ : Sto} {w0 : Int32} {w1 : Int32} {w2 : Int32} {w3 : Int32} {w4 : Int32} {w5 : Int32} {w6 : Int32} {w7 : Nat → Int32} {w8 : Nat → Int32} {w9 : Nat → Int32} {g : Nat → Int32} : aI (sgM_roadRead σ w0 w1 w2 w3 w4 w5 w6 w7 w8 w9) 611 g = sgM_roadRead σ w0 w1 w2 w3 w4 w5 w6 g w8 w9 := (aI_comm _ (by decide) _ _).trans (congrArg (fun z => aI z 616 w9) ((aI_comm _ (by decide) _ _).trans (congrArg (fun z => aI z 615 w8) (aI_aI _ 611 _ _))))
theorem sgM_roadRead_aI615 {σ : Sto} {w0 : Int32} {w1 : Int32} {w2 : Int32} {w3 : Int32} {w4 : Int32} {w5 : Int32} {w6 : Int32} {w7 : Nat → Int32} {w8 : Nat → Int32} {w9 : Nat → Int32} {g : Nat → Int32} : aI (sgM_roadRead σ w0 w1 w2 w3 w4 w5 w6 w7 w8 w9) 615 g = sgM_roadRead σ w0 w1 w2 w3 w4 w5 w6 w7 g w9 := (aI_comm _ (by decide) _ _).trans (congrArg (fun z => aI z 616 w9) (aI_aI _ 615 _ _))
theorem sgM_roadRead_aI616 {σ : Sto} {w0 : Int32} {w1 : Int32} {w2 : Int32} {w3 : Int32} {w4 : Int32} {w5 : Int32} {w6 : Int32} {w7 : Nat → Int32} {w8 : Nat → Int32} {w9 : Nat → Int32} {g : Nat → Int32} : aI (sgM_roadRead σ w0 w1 w2 w3 w4 w5 w6 w7 w8 w9) 616 g = sgM_roadRead σ w0 w1 w2 w3 w4 w5 w6 w7 w8 g := aI_aI _ 616 _ _
theorem sgM_roadRead_rzI504 {σ : Sto} {w0 : Int32} {w1 : Int32} {w2 : Int32} {w3 : Int32} {w4 : Int32} {w5 : Int32} {w6 : Int32} {w7 : Nat → Int32} {w8 : Nat → Int32} {w9 : Nat → Int32} : (sgM_roadRead σ w0 w1 w2 w3 w4 w5 w6 w7 w8 w9).1 504 = w0 := rfl
theorem sgM_roadRead_rzI505 {σ : Sto} {w0 : Int32} {w1 : Int32} {w2 : Int32} {w3 : Int32} {w4 : Int32} {w5 : Int32} {w6 : Int32} {w7 : Nat → Int32} {w8 : Nat → Int32} {w9 : Nat → Int32} : (sgM_roadRead σ w0 w1 w2 w3 w4 w5 w6 w7 w8 w9).1 505 = w1 := rfl
theorem sgM_roadRead_rzI506 {σ : Sto} {w0 : Int32} {w1 : Int32} {w2 : Int32} {w3 : Int32} {w4 : Int32} {w5 : Int32} {w6 : Int32} {w7 : Nat → Int32} {w8 : Nat → Int32} {w9 : Nat → Int32} : (sgM_roadRead σ w0 w1 w2 w3 w4 w5 w6 w7 w8 w9).1 506 = σ.1 506 := rfl
theorem sgM_roadRead_rzI507 {σ : Sto} {w0 : Int32} {w1 : Int32} {w2 : Int32} {w3 : Int32} {w4 : Int32} {w5 : Int32} {w6 : Int32} {w7 : Nat → Int32} {w8 : Nat → Int32} {w9 : Nat → Int32} : (sgM_roadRead σ w0 w1 w2 w3 w4 w5 w6 w7 w8 w9).1 507 = w2 := rfl
theorem sgM_roadRead_rzI508 {σ : Sto} {w0 : Int32} {w1 : Int32} {w2 : Int32} {w3 : Int32} {w4 : Int32} {w5 : Int32} {w6 : Int32} {w7 : Nat → Int32} {w8 : Nat → Int32} {w9 : Nat → Int32} : (sgM_roadRead σ w0 w1 w2 w3 w4 w5 w6 w7 w8 w9).1 508 = w3 := rfl
theorem sgM_roadRead_rzI509 {σ : Sto} {w0 : Int32} {w1 : Int32} {w2 : Int32} {w3 : Int32} {w4 : Int32} {w5 : Int32} {w6 : Int32} {w7 : Nat → Int32} {w8 : Nat → Int32} {w9 : Nat → Int32} : (sgM_roadRead σ w0 w1 w2 w3 w4 w5 w6 w7 w8 w9).1 509 = w4 := rfl
theorem sgM_roadRead_rzI510 {σ : Sto} {w0 : Int32} {w1 : Int32} {w2 : Int32} {w3 : Int32} {w4 : Int32} {w5 : Int32} {w6 : Int32} {w7 : Nat → Int32} {w8 : Nat → Int32} {w9 : Nat → Int32} : (sgM_roadRead σ w0 w1 w2 w3 w4 w5 w6 w7 w8 w9).1 510 = w5 := rfl
theorem sgM_roadRead_rzI519 {σ : Sto} {w0 : Int32} {w1 : Int32} {w2 : Int32} {w3 : Int32} {w4 : Int32} {w5 : Int32} {w6 : Int32} {w7 : Nat → Int32} {w8 : Nat → Int32} {w9 : Nat → Int32} : (sgM_roadRead σ w0 w1 w2 w3 w4 w5 w6 w7 w8 w9).1 519 = w6 := rfl
theorem sgM_roadRead_raI600 {σ : Sto} {w0 : Int32} {w1 : Int32} {w2 : Int32} {w3 : Int32} {w4 : Int32} {w5 : Int32} {w6 : Int32} {w7 : Nat → Int32} {w8 : Nat → Int32} {w9 : Nat → Int32} : (sgM_roadRead σ w0 w1 w2 w3 w4 w5 w6 w7 w8 w9).2.2.1 600 = σ.2.2.1 600 := rfl
theorem sgM_roadRead_raI603 {σ : Sto} {w0 : Int32} {w1 : Int32} {w2 : Int32} {w3 : Int32} {w4 : Int32} {w5 : Int32} {w6 : Int32} {w7 : Nat → Int32} {w8 : Nat → Int32} {w9 : Nat → Int32} : (sgM_roadRead σ w0 w1 w2 w3 w4 w5 w6 w7 w8 w9).2.2.1 603 = σ.2.2.1 603 := rfl
theorem sgM_roadRead_raI611 {σ : Sto} {w0 : Int32} {w1 : Int32} {w2 : Int32} {w3 : Int32} {w4 : Int32} {w5 : Int32} {w6 : Int32} {w7 : Nat → Int32} {w8 : Nat → Int32} {w9 : Nat → Int32} : (sgM_roadRead σ w0 w1 w2 w3 w4 w5 w6 w7 w8 w9).2.2.1 611 = w7 := rfl
theorem sgM_roadRead_raI612 {σ : Sto} {w0 : Int32} {w1 : Int32} {w2 : Int32} {w3 : Int32} {w4 : Int32} {w5 : Int32} {w6 : Int32} {w7 : Nat → Int32} {w8 : Nat → Int32} {w9 : Nat → Int32} : (sgM_roadRead σ w0 w1 w2 w3 w4 w5 w6 w7 w8 w9).2.2.1 612 = σ.2.2.1 612 := rfl
theorem sgM_roadRead_raI613 {σ : Sto} {w0 : Int32} {w1 : Int32} {w2 : Int32} {w3 : Int32} {w4 : Int32} {w5 : Int32} {w6 : Int32} {w7 : Nat → Int32} {w8 : Nat → Int32} {w9 : Nat → Int32} : (sgM_roadRead σ w0 w1 w2 w3 w4 w5 w6 w7 w8 w9).2.2.1 613 = σ.2.2.1 613 := rfl
theorem sgM_roadRead_raI615 {σ : Sto} {w0 : Int32} {w1 : Int32} {w2 : Int32} {w3 : Int32} {w4 : Int32} {w5 : Int32} {w6 : Int32} {w7 : Nat → Int32} {w8 : Nat → Int32} {w9 : Nat → Int32} : (sgM_roadRead σ w0 w1 w2 w3 w4 w5 w6 w7 w8 w9).2.2.1 615 = w8 := rfl
theorem sgM_roadRead_raI616 {σ : Sto} {w0 : Int32} {w1 : Int32} {w2 : Int32} {w3 : Int32} {w4 : Int32} {w5 : Int32} {w6 : Int32} {w7 : Nat → Int32} {w8 : Nat → Int32} {w9 : Nat → Int32} : (sgM_roadRead σ w0 w1 w2 w3 w4 w5 w6 w7 w8 w9).2.2.1 616 = w9 := rfl
abbrev rmM_roadRead : Room := { frames := 2, cells := 0, slots := 0, locals := 47 }
set_option maxHeartbeats 4000000 in
theorem wkM_roadRead  {r_ : Int32} {w_zI504 : Int32} {w_zI505 : Int32} {w_zI507 : Int32} {w_zI508 : Int32} {w_zI509 : Int32} {w_zI510 : Int32} {w_zI519 : Int32} {w_aI611 : Nat → Int32} {w_aI615 : Nat → Int32} {w_aI616 : Nat → Int32} (E : EN p s m args meth c0 RX16 cX16_roadRead 4 (Option.some Jvm.ClassFile.FieldType.boolean)) (hK : KK D clsA G s) (hA : ∀ q, PA dscM ad s.heap.size q → A q) (hf : mo_roadRead (σ.1 504) (σ.1 505) (σ.1 506) (σ.1 507) (σ.1 508) (σ.1 509) (σ.1 510) (σ.1 519) (σ.2.2.1 600) (σ.2.2.1 603) (σ.2.2.1 611) (σ.2.2.1 612) (σ.2.2.1 613) (σ.2.2.1 615) (σ.2.2.1 616) = some (r_, w_zI504, w_zI505, w_zI507, w_zI508, w_zI509, w_zI510, w_zI519, w_aI611, w_aI615, w_aI616)) (hQ : Q = MQ below (va_Qi (fun x (_ : Unit) => x = r_) (fun _ t => PM D G ad (sgM_roadRead σ w_zI504 w_zI505 w_zI507 w_zI508 w_zI509 w_zI510 w_zI519 w_aI611 w_aI615 w_aI616) t.heap ∧ KK D clsA G t) A) args s 0 0 A) (hP : PM D G ad σ H) (hS : va_S A s.heap H locs) (hl : lv_has ls 4 [(0, .ref (ad 500))]) : W p l e rmM_roadRead s m args below meth c0 H locs 0 0 Q (F0 m 0 ls []) := by
  obtain ⟨⟨hx, hb, hml, hown, hts⟩, hr, hlk⟩ := id E
  have hP := hP.to (sgM_roadRead_self σ).symm
  unfold mo_roadRead at hf
  refine lv_aload_n hx hb dX16_roadRead_0 rfl (lv_at hl 0 rfl) ?_
  refine gM_11 E hK hP dX16_roadRead_1 ?_
  refine lv_bipush hx hb dX16_roadRead_4 bp_10 ?_
  obtain ⟨v1, hv1, hf⟩ := bdP hf
  refine p_iald hx hb hK hP dM_611 sgM_roadRead_raI611 hv1 dX16_roadRead_6 ?_
  refine lv_bipush hx hb dX16_roadRead_7 bp_24 ?_
  refine lv_icmp_ne (tgt := 18) hx hb dX16_roadRead_9 (by decide) (fun c2 => ?_) (fun c2 => ?_)
  · have hf := ifF c2 hf
    refine lv_aload_n hx hb dX16_roadRead_18 rfl (lv_at hl 0 rfl) ?_
    obtain ⟨⟨z3, z4, z5, z6⟩, u7, hf⟩ := bdP hf
    dsimp only at hf
    refine cM_take E hK hP hS hA sgM_roadRead_rzI506 sgM_roadRead_rzI507 sgM_roadRead_rzI508 sgM_roadRead_rzI509 sgM_roadRead_rzI510 sgM_roadRead_raI600 sgM_roadRead_raI603 u7 ⟨Nat.le_of_ble_eq_true rfl, Nat.le_of_ble_eq_true rfl⟩ ⟨Nat.zero_le _, Nat.zero_le _⟩ hl.1 (Nat.le_of_ble_eq_true rfl) dX16_roadRead_19 (fun H locs hP hS => ?_)
    rw [sgM_roadRead_zI507, sgM_roadRead_zI508, sgM_roadRead_zI509, sgM_roadRead_zI510] at hP
    refine lv_aload_n hx hb dX16_roadRead_22 rfl (lv_at hl 0 rfl) ?_
    obtain ⟨⟨v8, z9, z10, z11⟩, u12, hf⟩ := bdP hf
    dsimp only at hf
    refine cM_spotRead E hK hP hS hA sgM_roadRead_rzI504 sgM_roadRead_rzI505 sgM_roadRead_rzI508 sgM_roadRead_rzI509 sgM_roadRead_rzI510 sgM_roadRead_rzI519 sgM_roadRead_raI611 sgM_roadRead_raI612 u12 ⟨Nat.le_of_ble_eq_true rfl, Nat.le_of_ble_eq_true rfl⟩ ⟨Nat.zero_le _, Nat.zero_le _⟩ hl.1 (Nat.le_of_ble_eq_true rfl) dX16_roadRead_23 (fun H locs hP hS => ?_)
    rw [sgM_roadRead_zI504, sgM_roadRead_zI505, sgM_roadRead_zI519] at hP
    refine lv_if_ne (tgt := 31) hx hb dX16_roadRead_26 (by decide) (fun c13 => ?_) (fun c13 => ?_)
    · have hf := ifF c13 hf
      refine lv_aload_n hx hb dX16_roadRead_31 rfl (lv_at hl 0 rfl) ?_
      refine gM_19 (v := z11) E hK hP sgM_roadRead_rzI519 dX16_roadRead_32 ?_
      refine lv_istore_n (lv' := [(1, .int z11), (0, .ref (ad 500))]) hx hb dX16_roadRead_35 rfl hl (by decide) rfl (fun ls hl => ?_)
      refine lv_aload_n hx hb dX16_roadRead_36 rfl (lv_at hl 1 rfl) ?_
      obtain ⟨⟨z14, z15, z16, z17⟩, u18, hf⟩ := bdP hf
      dsimp only at hf
      refine cM_take E hK hP hS hA sgM_roadRead_rzI506 sgM_roadRead_rzI507 sgM_roadRead_rzI508 sgM_roadRead_rzI509 sgM_roadRead_rzI510 sgM_roadRead_raI600 sgM_roadRead_raI603 u18 ⟨Nat.le_of_ble_eq_true rfl, Nat.le_of_ble_eq_true rfl⟩ ⟨Nat.zero_le _, Nat.zero_le _⟩ hl.1 (Nat.le_of_ble_eq_true rfl) dX16_roadRead_37 (fun H locs hP hS => ?_)
      rw [sgM_roadRead_zI507, sgM_roadRead_zI508, sgM_roadRead_zI509, sgM_roadRead_zI510] at hP
      refine lv_aload_n hx hb dX16_roadRead_40 rfl (lv_at hl 1 rfl) ?_
      obtain ⟨⟨v19, z20, z21, z22⟩, u23, hf⟩ := bdP hf
      dsimp only at hf
      refine cM_spotRead E hK hP hS hA sgM_roadRead_rzI504 sgM_roadRead_rzI505 sgM_roadRead_rzI508 sgM_roadRead_rzI509 sgM_roadRead_rzI510 sgM_roadRead_rzI519 sgM_roadRead_raI611 sgM_roadRead_raI612 u23 ⟨Nat.le_of_ble_eq_true rfl, Nat.le_of_ble_eq_true rfl⟩ ⟨Nat.zero_le _, Nat.zero_le _⟩ hl.1 (Nat.le_of_ble_eq_true rfl) dX16_roadRead_41 (fun H locs hP hS => ?_)
      rw [sgM_roadRead_zI504, sgM_roadRead_zI505, sgM_roadRead_zI519] at hP
      refine lv_if_ne (tgt := 49) hx hb dX16_roadRead_44 (by decide) (fun c24 => ?_) (fun c24 => ?_)
      · have hf := ifF c24 hf
        refine lv_aload_n hx hb dX16_roadRead_49 rfl (lv_at hl 1 rfl) ?_
        refine gM_19 (v := z22) E hK hP sgM_roadRead_rzI519 dX16_roadRead_50 ?_
        refine lv_iload_n hx hb dX16_roadRead_53 rfl (lv_at hl 0 rfl) ?_
        have J69 : mo_roadRead_J69 (σ.2.2.1 611) (σ.2.2.1 615) (σ.2.2.1 616) z14 z15 z16 z17 z20 z21 z22 = some (r_, w_zI504, w_zI505, w_zI507, w_zI508, w_zI509, w_zI510, w_zI519, w_aI611, w_aI615, w_aI616) → ∀ (H : Heap) (locs : List Loc), PM D G ad (sgM_roadRead σ z20 z21 z14 z15 z16 z17 z22 (σ.2.2.1 611) (σ.2.2.1 615) (σ.2.2.1 616)) H → va_S A s.heap H locs → ∀ (ls : Array Slot), lv_has ls 4 [(0, .ref (ad 500))] → W p l e rmM_roadRead s m args below meth c0 H locs 0 0 Q (F0 m 69 ls []) := by
          intro  hf H locs hP hS ls hl
          unfold mo_roadRead_J69 at hf
          refine lv_aload_n hx hb dX16_roadRead_69 rfl (lv_at hl 0 rfl) ?_
          refine lv_iconst hx hb dX16_roadRead_70 ic_3 ?_
          obtain ⟨⟨v25, z26, z27⟩, u28, hf⟩ := bdP hf
          dsimp only at hf
          refine cM_wrong E hK hP hS hA sgM_roadRead_rzI504 sgM_roadRead_rzI505 sgM_roadRead_rzI510 u28 ⟨Nat.le_of_ble_eq_true rfl, Nat.le_of_ble_eq_true rfl⟩ ⟨Nat.zero_le _, Nat.zero_le _⟩ hl.1 (Nat.le_of_ble_eq_true rfl) dX16_roadRead_71 (fun H locs hP hS => ?_)
          rw [sgM_roadRead_zI504, sgM_roadRead_zI505] at hP
          obtain ⟨v29, hv29, hf⟩ := bdP hf
          obtain ⟨hv29a, hv29b⟩ := retZ_some hv29
          subst hv29a
          cases hf
          rw [hQ]; exact p_zret hx hb hr hlk hK hP hS hv29b dX16_roadRead_74
        refine lv_icmp_eq (tgt := 69) hx hb dX16_roadRead_54 (by decide) (fun c30 => ?_) (fun c30 => ?_)
        · have hf := ifT c30 hf
          exact J69  hf H locs hP hS ls (lv_sub hl [1] rfl)
        · have hf := ifF c30 hf
          refine lv_aload_n hx hb dX16_roadRead_57 rfl (lv_at hl 1 rfl) ?_
          refine lv_iload_n hx hb dX16_roadRead_58 rfl (lv_at hl 0 rfl) ?_
          refine lv_aload_n hx hb dX16_roadRead_59 rfl (lv_at hl 1 rfl) ?_
          refine gM_19 (v := z22) E hK hP sgM_roadRead_rzI519 dX16_roadRead_60 ?_
          obtain ⟨v31, u32, hf⟩ := bdP hf
          refine cM_roadBetween E hK hP hS hA sgM_roadRead_raI611 sgM_roadRead_raI615 u32 ⟨Nat.le_of_ble_eq_true rfl, Nat.le_of_ble_eq_true rfl⟩ ⟨Nat.zero_le _, Nat.zero_le _⟩ hl.1 (Nat.le_of_ble_eq_true rfl) dX16_roadRead_63 (fun H locs hP hS => ?_)
          refine lv_if_lt (tgt := 75) hx hb dX16_roadRead_66 (by decide) (fun c33 => ?_) (fun c33 => ?_)
          · have hf := ifT c33 hf
            refine lv_sipush hx hb dX16_roadRead_75 sp_168 ?_
            refine lv_bipush hx hb dX16_roadRead_78 bp_7 ?_
            refine lv_aload_n hx hb dX16_roadRead_80 rfl (lv_at hl 1 rfl) ?_
            refine gM_11 E hK hP dX16_roadRead_81 ?_
            refine lv_bipush hx hb dX16_roadRead_84 bp_10 ?_
            obtain ⟨v34, hv34, hf⟩ := bdP hf
            refine p_iald hx hb hK hP dM_611 sgM_roadRead_raI611 hv34 dX16_roadRead_86 ?_
            refine lv_imul hx hb dX16_roadRead_87 ?_
            refine lv_iadd hx hb dX16_roadRead_88 ?_
            obtain ⟨v35, hv35, hf⟩ := bdP hf
            refine nm_i (Option.some.inj hv35) ?_
            refine lv_istore_n (lv' := [(2, .int v35), (1, .int z11), (0, .ref (ad 500))]) hx hb dX16_roadRead_89 rfl hl (by decide) rfl (fun ls hl => ?_)
            refine lv_aload_n hx hb dX16_roadRead_90 rfl (lv_at hl 2 rfl) ?_
            refine gM_15 E hK hP dX16_roadRead_91 ?_
            refine lv_iload_n hx hb dX16_roadRead_94 rfl (lv_at hl 0 rfl) ?_
            refine lv_iload_n hx hb dX16_roadRead_95 rfl (lv_at hl 1 rfl) ?_
            obtain ⟨a36, ha36, hf⟩ := bdP hf
            refine p_iast hx hb hK hP hS (hA _ (PA_c dM_615)) dM_615 sgM_roadRead_raI615 ha36 sgM_roadRead_aI615 dX16_roadRead_96 (fun H locs hP hS => ?_)
            refine lv_aload_n hx hb dX16_roadRead_97 rfl (lv_at hl 2 rfl) ?_
            refine gM_15 E hK hP dX16_roadRead_98 ?_
            refine lv_iload_n hx hb dX16_roadRead_101 rfl (lv_at hl 0 rfl) ?_
            refine lv_iconst hx hb dX16_roadRead_102 ic_1 ?_
            refine lv_iadd hx hb dX16_roadRead_103 ?_
            refine lv_aload_n hx hb dX16_roadRead_104 rfl (lv_at hl 2 rfl) ?_
            refine gM_19 (v := z22) E hK hP sgM_roadRead_rzI519 dX16_roadRead_105 ?_
            obtain ⟨a37, ha37, hf⟩ := bdP hf
            refine p_iast hx hb hK hP hS (hA _ (PA_c dM_615)) dM_615 sgM_roadRead_raI615 ha37 sgM_roadRead_aI615 dX16_roadRead_108 (fun H locs hP hS => ?_)
            refine lv_aload_n hx hb dX16_roadRead_109 rfl (lv_at hl 2 rfl) ?_
            obtain ⟨⟨z38, z39, z40, z41⟩, u42, hf⟩ := bdP hf
            dsimp only at hf
            refine cM_take E hK hP hS hA sgM_roadRead_rzI506 sgM_roadRead_rzI507 sgM_roadRead_rzI508 sgM_roadRead_rzI509 sgM_roadRead_rzI510 sgM_roadRead_raI600 sgM_roadRead_raI603 u42 ⟨Nat.le_of_ble_eq_true rfl, Nat.le_of_ble_eq_true rfl⟩ ⟨Nat.zero_le _, Nat.zero_le _⟩ hl.1 (Nat.le_of_ble_eq_true rfl) dX16_roadRead_110 (fun H locs hP hS => ?_)
            rw [sgM_roadRead_zI507, sgM_roadRead_zI508, sgM_roadRead_zI509, sgM_roadRead_zI510] at hP
            refine lv_aload_n hx hb dX16_roadRead_113 rfl (lv_at hl 2 rfl) ?_
            refine lv_iconst hx hb dX16_roadRead_114 ic_1 ?_
            refine lv_bipush hx hb dX16_roadRead_115 bp_99 ?_
            obtain ⟨⟨v43, z44, z45⟩, u46, hf⟩ := bdP hf
            dsimp only at hf
            refine cM_numberRead E hK hP hS hA sgM_roadRead_rzI504 sgM_roadRead_rzI505 sgM_roadRead_rzI508 sgM_roadRead_rzI509 sgM_roadRead_rzI510 u46 ⟨Nat.le_of_ble_eq_true rfl, Nat.le_of_ble_eq_true rfl⟩ ⟨Nat.zero_le _, Nat.zero_le _⟩ hl.1 (Nat.le_of_ble_eq_true rfl) dX16_roadRead_117 (fun H locs hP hS => ?_)
            rw [sgM_roadRead_zI504, sgM_roadRead_zI505] at hP
            refine lv_if_ne (tgt := 125) hx hb dX16_roadRead_120 (by decide) (fun c47 => ?_) (fun c47 => ?_)
            · have hf := ifF c47 hf
              refine lv_aload_n hx hb dX16_roadRead_125 rfl (lv_at hl 2 rfl) ?_
              refine gM_15 E hK hP dX16_roadRead_126 ?_
              refine lv_iload_n hx hb dX16_roadRead_129 rfl (lv_at hl 0 rfl) ?_
              refine lv_iconst hx hb dX16_roadRead_130 ic_2 ?_
              refine lv_iadd hx hb dX16_roadRead_131 ?_
              refine lv_aload_n hx hb dX16_roadRead_132 rfl (lv_at hl 2 rfl) ?_
              refine gM_9 (v := z40) E hK hP sgM_roadRead_rzI509 dX16_roadRead_133 ?_
              obtain ⟨a48, ha48, hf⟩ := bdP hf
              refine p_iast hx hb hK hP hS (hA _ (PA_c dM_615)) dM_615 sgM_roadRead_raI615 ha48 sgM_roadRead_aI615 dX16_roadRead_136 (fun H locs hP hS => ?_)
              refine lv_aload_n hx hb dX16_roadRead_137 rfl (lv_at hl 2 rfl) ?_
              refine gM_15 E hK hP dX16_roadRead_138 ?_
              refine lv_iload_n hx hb dX16_roadRead_141 rfl (lv_at hl 0 rfl) ?_
              refine lv_iconst hx hb dX16_roadRead_142 ic_3 ?_
              refine lv_iadd hx hb dX16_roadRead_143 ?_
              refine lv_iconst hx hb dX16_roadRead_144 ic_0 ?_
              obtain ⟨a49, ha49, hf⟩ := bdP hf
              refine p_iast hx hb hK hP hS (hA _ (PA_c dM_615)) dM_615 sgM_roadRead_raI615 ha49 sgM_roadRead_aI615 dX16_roadRead_145 (fun H locs hP hS => ?_)
              refine lv_aload_n hx hb dX16_roadRead_146 rfl (lv_at hl 2 rfl) ?_
              refine gM_15 E hK hP dX16_roadRead_147 ?_
              refine lv_iload_n hx hb dX16_roadRead_150 rfl (lv_at hl 0 rfl) ?_
              refine lv_iconst hx hb dX16_roadRead_151 ic_4 ?_
              refine lv_iadd hx hb dX16_roadRead_152 ?_
              refine lv_iconst hx hb dX16_roadRead_153 ic_m1 ?_
              obtain ⟨a50, ha50, hf⟩ := bdP hf
              refine p_iast hx hb hK hP hS (hA _ (PA_c dM_615)) dM_615 sgM_roadRead_raI615 ha50 sgM_roadRead_aI615 dX16_roadRead_154 (fun H locs hP hS => ?_)
              refine lv_aload_n hx hb dX16_roadRead_155 rfl (lv_at hl 2 rfl) ?_
              refine gM_15 E hK hP dX16_roadRead_156 ?_
              refine lv_iload_n hx hb dX16_roadRead_159 rfl (lv_at hl 0 rfl) ?_
              refine lv_iconst hx hb dX16_roadRead_160 ic_5 ?_
              refine lv_iadd hx hb dX16_roadRead_161 ?_
              refine lv_iconst hx hb dX16_roadRead_162 ic_0 ?_
              obtain ⟨a51, ha51, hf⟩ := bdP hf
              refine p_iast hx hb hK hP hS (hA _ (PA_c dM_615)) dM_615 sgM_roadRead_raI615 ha51 sgM_roadRead_aI615 dX16_roadRead_163 (fun H locs hP hS => ?_)
              refine lv_aload_n hx hb dX16_roadRead_164 rfl (lv_at hl 2 rfl) ?_
              refine gM_15 E hK hP dX16_roadRead_165 ?_
              refine lv_iload_n hx hb dX16_roadRead_168 rfl (lv_at hl 0 rfl) ?_
              refine lv_bipush hx hb dX16_roadRead_169 bp_6 ?_
              refine lv_iadd hx hb dX16_roadRead_171 ?_
              refine lv_iconst hx hb dX16_roadRead_172 ic_m1 ?_
              obtain ⟨a52, ha52, hf⟩ := bdP hf
              refine p_iast hx hb hK hP hS (hA _ (PA_c dM_615)) dM_615 sgM_roadRead_raI615 ha52 sgM_roadRead_aI615 dX16_roadRead_173 (fun H locs hP hS => ?_)
              refine lv_aload_n hx hb dX16_roadRead_174 rfl (lv_at hl 2 rfl) ?_
              obtain ⟨⟨z53, z54, z55, z56⟩, u57, hf⟩ := bdP hf
              dsimp only at hf
              refine cM_take E hK hP hS hA sgM_roadRead_rzI506 sgM_roadRead_rzI507 sgM_roadRead_rzI508 sgM_roadRead_rzI509 sgM_roadRead_rzI510 sgM_roadRead_raI600 sgM_roadRead_raI603 u57 ⟨Nat.le_of_ble_eq_true rfl, Nat.le_of_ble_eq_true rfl⟩ ⟨Nat.zero_le _, Nat.zero_le _⟩ hl.1 (Nat.le_of_ble_eq_true rfl) dX16_roadRead_175 (fun H locs hP hS => ?_)
              rw [sgM_roadRead_zI507, sgM_roadRead_zI508, sgM_roadRead_zI509, sgM_roadRead_zI510] at hP
              refine lv_iconst hx hb dX16_roadRead_178 ic_0 ?_
              refine lv_istore_n (lv' := [(3, .int 0), (2, .int v35), (1, .int z11), (0, .ref (ad 500))]) hx hb dX16_roadRead_179 rfl hl (by decide) rfl (fun ls hl => ?_)
              refine lv_aload_n hx hb dX16_roadRead_180 rfl (lv_at hl 3 rfl) ?_
              refine lv_iconst hx hb dX16_roadRead_181 ic_3 ?_
              obtain ⟨v58, u59, hf⟩ := bdP hf
              refine cM_isKey E hK hP hS hA sgM_roadRead_rzI508 sgM_roadRead_rzI509 u59 ⟨Nat.le_of_ble_eq_true rfl, Nat.le_of_ble_eq_true rfl⟩ ⟨Nat.zero_le _, Nat.zero_le _⟩ hl.1 (Nat.le_of_ble_eq_true rfl) dX16_roadRead_182 (fun H locs hP hS => ?_)
              have J231 : ∀ (y60 : Int32) (z61 : Int32) (z62 : Int32) (z63 : Int32) (z64 : Int32) (z65 : Int32) (z66 : Int32) (a67 : Nat → Int32), mo_roadRead_J231 (σ.1 506) (σ.2.2.1 600) (σ.2.2.1 603) (σ.2.2.1 611) (σ.2.2.1 613) (σ.2.2.1 616) z22 v35 y60 z61 z62 z63 z64 z65 z66 a67 = some (r_, w_zI504, w_zI505, w_zI507, w_zI508, w_zI509, w_zI510, w_zI519, w_aI611, w_aI615, w_aI616) → ∀ (H : Heap) (locs : List Loc), PM D G ad (sgM_roadRead σ z61 z62 z63 z64 z65 z66 z22 (σ.2.2.1 611) a67 (σ.2.2.1 616)) H → va_S A s.heap H locs → ∀ (ls : Array Slot), lv_has ls 4 [(0, .ref (ad 500)), (2, .int v35), (3, .int y60)] → W p l e rmM_roadRead s m args below meth c0 H locs 0 0 Q (F0 m 231 ls []) := by
                intro y60 z61 z62 z63 z64 z65 z66 a67 hf H locs hP hS ls hl
                unfold mo_roadRead_J231 at hf
                refine lv_aload_n hx hb dX16_roadRead_231 rfl (lv_at hl 0 rfl) ?_
                refine lv_iconst hx hb dX16_roadRead_232 ic_4 ?_
                obtain ⟨v68, u69, hf⟩ := bdP hf
                refine cM_isKey E hK hP hS hA sgM_roadRead_rzI508 sgM_roadRead_rzI509 u69 ⟨Nat.le_of_ble_eq_true rfl, Nat.le_of_ble_eq_true rfl⟩ ⟨Nat.zero_le _, Nat.zero_le _⟩ hl.1 (Nat.le_of_ble_eq_true rfl) dX16_roadRead_233 (fun H locs hP hS => ?_)
                have J309 : ∀ (y70 : Int32) (z71 : Int32) (z72 : Int32) (z73 : Int32) (z74 : Int32) (z75 : Int32) (z76 : Int32) (a77 : Nat → Int32), mo_roadRead_J309 (σ.1 506) (σ.2.2.1 600) (σ.2.2.1 603) (σ.2.2.1 611) (σ.2.2.1 616) z22 v35 y70 z71 z72 z73 z74 z75 z76 a77 = some (r_, w_zI504, w_zI505, w_zI507, w_zI508, w_zI509, w_zI510, w_zI519, w_aI611, w_aI615, w_aI616) → ∀ (H : Heap) (locs : List Loc), PM D G ad (sgM_roadRead σ z71 z72 z73 z74 z75 z76 z22 (σ.2.2.1 611) a77 (σ.2.2.1 616)) H → va_S A s.heap H locs → ∀ (ls : Array Slot), lv_has ls 4 [(0, .ref (ad 500)), (2, .int v35), (3, .int y70)] → W p l e rmM_roadRead s m args below meth c0 H locs 0 0 Q (F0 m 309 ls []) := by
                  intro y70 z71 z72 z73 z74 z75 z76 a77 hf H locs hP hS ls hl
                  unfold mo_roadRead_J309 at hf
                  refine lv_aload_n hx hb dX16_roadRead_309 rfl (lv_at hl 0 rfl) ?_
                  refine lv_iconst hx hb dX16_roadRead_310 ic_5 ?_
                  obtain ⟨v78, u79, hf⟩ := bdP hf
                  refine cM_isKey E hK hP hS hA sgM_roadRead_rzI508 sgM_roadRead_rzI509 u79 ⟨Nat.le_of_ble_eq_true rfl, Nat.le_of_ble_eq_true rfl⟩ ⟨Nat.zero_le _, Nat.zero_le _⟩ hl.1 (Nat.le_of_ble_eq_true rfl) dX16_roadRead_311 (fun H locs hP hS => ?_)
                  have J353 : ∀ (z80 : Int32) (z81 : Int32) (z82 : Int32) (z83 : Int32) (z84 : Int32) (z85 : Int32) (a86 : Nat → Int32), mo_roadRead_J353 (σ.2.2.1 611) (σ.2.2.1 616) z22 v35 y70 z80 z81 z82 z83 z84 z85 a86 = some (r_, w_zI504, w_zI505, w_zI507, w_zI508, w_zI509, w_zI510, w_zI519, w_aI611, w_aI615, w_aI616) → ∀ (H : Heap) (locs : List Loc), PM D G ad (sgM_roadRead σ z80 z81 z82 z83 z84 z85 z22 (σ.2.2.1 611) a86 (σ.2.2.1 616)) H → va_S A s.heap H locs → ∀ (ls : Array Slot), lv_has ls 4 [(0, .ref (ad 500)), (2, .int v35), (3, .int y70)] → W p l e rmM_roadRead s m args below meth c0 H locs 0 0 Q (F0 m 353 ls []) := by
                    intro z80 z81 z82 z83 z84 z85 a86 hf H locs hP hS ls hl
                    unfold mo_roadRead_J353 at hf
                    refine lv_iload_n hx hb dX16_roadRead_353 rfl (lv_at hl 2 rfl) ?_
                    have J406 : ∀ (a87 : Nat → Int32) (a88 : Nat → Int32) (a89 : Nat → Int32), mo_roadRead_J406 z22 z80 z81 z82 z83 z84 z85 a87 a88 a89 = some (r_, w_zI504, w_zI505, w_zI507, w_zI508, w_zI509, w_zI510, w_zI519, w_aI611, w_aI615, w_aI616) → ∀ (H : Heap) (locs : List Loc), PM D G ad (sgM_roadRead σ z80 z81 z82 z83 z84 z85 z22 a87 a88 a89) H → va_S A s.heap H locs → ∀ (ls : Array Slot), lv_has ls 4 [(0, .ref (ad 500))] → W p l e rmM_roadRead s m args below meth c0 H locs 0 0 Q (F0 m 406 ls []) := by
                      intro a87 a88 a89 hf H locs hP hS ls hl
                      unfold mo_roadRead_J406 at hf
                      refine lv_aload_n hx hb dX16_roadRead_406 rfl (lv_at hl 0 rfl) ?_
                      refine gM_11 E hK hP dX16_roadRead_407 ?_
                      refine lv_bipush hx hb dX16_roadRead_410 bp_10 ?_
                      refine lv_dup2_11 hx hb dX16_roadRead_412 rfl rfl ?_
                      obtain ⟨v90, hv90, hf⟩ := bdP hf
                      refine p_iald hx hb hK hP dM_611 sgM_roadRead_raI611 hv90 dX16_roadRead_413 ?_
                      refine lv_iconst hx hb dX16_roadRead_414 ic_1 ?_
                      refine lv_iadd hx hb dX16_roadRead_415 ?_
                      obtain ⟨a91, ha91, hf⟩ := bdP hf
                      refine p_iast hx hb hK hP hS (hA _ (PA_c dM_611)) dM_611 sgM_roadRead_raI611 ha91 sgM_roadRead_aI611 dX16_roadRead_416 (fun H locs hP hS => ?_)
                      refine lv_iconst hx hb dX16_roadRead_417 ic_1 ?_
                      cases hf
                      rw [hQ]; exact p_zret hx hb hr hlk hK hP hS rfl dX16_roadRead_418
                    refine lv_if_eq (tgt := 406) hx hb dX16_roadRead_354 (by decide) (fun c92 => ?_) (fun c92 => ?_)
                    · have hf := ifT c92 hf
                      exact J406 (σ.2.2.1 611) a86 (σ.2.2.1 616) hf H locs hP hS ls (lv_sub hl [0] rfl)
                    · have hf := ifF c92 hf
                      refine lv_aload_n hx hb dX16_roadRead_357 rfl (lv_at hl 0 rfl) ?_
                      refine gM_15 E hK hP dX16_roadRead_358 ?_
                      refine lv_iload_n hx hb dX16_roadRead_361 rfl (lv_at hl 1 rfl) ?_
                      refine lv_bipush hx hb dX16_roadRead_362 bp_6 ?_
                      refine lv_iadd hx hb dX16_roadRead_364 ?_
                      refine lv_aload_n hx hb dX16_roadRead_365 rfl (lv_at hl 0 rfl) ?_
                      refine gM_11 E hK hP dX16_roadRead_366 ?_
                      refine lv_bipush hx hb dX16_roadRead_369 bp_11 ?_
                      obtain ⟨v93, hv93, hf⟩ := bdP hf
                      refine p_iald hx hb hK hP dM_611 sgM_roadRead_raI611 hv93 dX16_roadRead_371 ?_
                      obtain ⟨a94, ha94, hf⟩ := bdP hf
                      refine p_iast hx hb hK hP hS (hA _ (PA_c dM_615)) dM_615 sgM_roadRead_raI615 ha94 sgM_roadRead_aI615 dX16_roadRead_372 (fun H locs hP hS => ?_)
                      refine lv_aload_n hx hb dX16_roadRead_373 rfl (lv_at hl 0 rfl) ?_
                      refine gM_16 E hK hP dX16_roadRead_374 ?_
                      refine lv_bipush hx hb dX16_roadRead_377 bp_6 ?_
                      refine lv_aload_n hx hb dX16_roadRead_379 rfl (lv_at hl 0 rfl) ?_
                      refine gM_11 E hK hP dX16_roadRead_380 ?_
                      refine lv_bipush hx hb dX16_roadRead_383 bp_11 ?_
                      obtain ⟨v95, hv95, hf⟩ := bdP hf
                      refine p_iald hx hb hK hP dM_611 sgM_roadRead_raI611 hv95 dX16_roadRead_385 ?_
                      refine lv_iadd hx hb dX16_roadRead_386 ?_
                      refine lv_aload_n hx hb dX16_roadRead_387 rfl (lv_at hl 0 rfl) ?_
                      refine gM_11 E hK hP dX16_roadRead_388 ?_
                      refine lv_bipush hx hb dX16_roadRead_391 bp_10 ?_
                      obtain ⟨v96, hv96, hf⟩ := bdP hf
                      refine p_iald hx hb hK hP dM_611 sgM_roadRead_raI611 hv96 dX16_roadRead_393 ?_
                      obtain ⟨a97, ha97, hf⟩ := bdP hf
                      refine p_iast hx hb hK hP hS (hA _ (PA_c dM_616)) dM_616 sgM_roadRead_raI616 ha97 sgM_roadRead_aI616 dX16_roadRead_394 (fun H locs hP hS => ?_)
                      refine lv_aload_n hx hb dX16_roadRead_395 rfl (lv_at hl 0 rfl) ?_
                      refine gM_11 E hK hP dX16_roadRead_396 ?_
                      refine lv_bipush hx hb dX16_roadRead_399 bp_11 ?_
                      refine lv_dup2_11 hx hb dX16_roadRead_401 rfl rfl ?_
                      obtain ⟨v98, hv98, hf⟩ := bdP hf
                      refine p_iald hx hb hK hP dM_611 sgM_roadRead_raI611 hv98 dX16_roadRead_402 ?_
                      refine lv_iconst hx hb dX16_roadRead_403 ic_1 ?_
                      refine lv_iadd hx hb dX16_roadRead_404 ?_
                      obtain ⟨a99, ha99, hf⟩ := bdP hf
                      refine p_iast hx hb hK hP hS (hA _ (PA_c dM_611)) dM_611 sgM_roadRead_raI611 ha99 sgM_roadRead_aI611 dX16_roadRead_405 (fun H locs hP hS => ?_)
                      exact J406 a99 a94 a97 hf H locs hP hS ls (lv_sub hl [0] rfl)
                  refine lv_if_eq (tgt := 353) hx hb dX16_roadRead_314 (by decide) (fun c100 => ?_) (fun c100 => ?_)
                  · have hf := ifT c100 hf
                    exact J353 z71 z72 z73 z74 z75 z76 a77 hf H locs hP hS ls (lv_sub hl [0, 1, 2] rfl)
                  · have hf := ifF c100 hf
                    refine lv_iload_n hx hb dX16_roadRead_317 rfl (lv_at hl 2 rfl) ?_
                    refine lv_if_eq (tgt := 353) hx hb dX16_roadRead_318 (by decide) (fun c101 => ?_) (fun c101 => ?_)
                    · have hf := ifT c101 hf
                      exact J353 z71 z72 z73 z74 z75 z76 a77 hf H locs hP hS ls (lv_sub hl [0, 1, 2] rfl)
                    · have hf := ifF c101 hf
                      refine lv_aload_n hx hb dX16_roadRead_321 rfl (lv_at hl 0 rfl) ?_
                      obtain ⟨⟨z102, z103, z104, z105⟩, u106, hf⟩ := bdP hf
                      dsimp only at hf
                      refine cM_take E hK hP hS hA sgM_roadRead_rzI506 sgM_roadRead_rzI507 sgM_roadRead_rzI508 sgM_roadRead_rzI509 sgM_roadRead_rzI510 sgM_roadRead_raI600 sgM_roadRead_raI603 u106 ⟨Nat.le_of_ble_eq_true rfl, Nat.le_of_ble_eq_true rfl⟩ ⟨Nat.zero_le _, Nat.zero_le _⟩ hl.1 (Nat.le_of_ble_eq_true rfl) dX16_roadRead_322 (fun H locs hP hS => ?_)
                      rw [sgM_roadRead_zI507, sgM_roadRead_zI508, sgM_roadRead_zI509, sgM_roadRead_zI510] at hP
                      refine lv_aload_n hx hb dX16_roadRead_325 rfl (lv_at hl 0 rfl) ?_
                      refine lv_iconst hx hb dX16_roadRead_326 ic_1 ?_
                      refine lv_bipush hx hb dX16_roadRead_327 bp_99 ?_
                      obtain ⟨⟨v107, z108, z109⟩, u110, hf⟩ := bdP hf
                      dsimp only at hf
                      refine cM_numberRead E hK hP hS hA sgM_roadRead_rzI504 sgM_roadRead_rzI505 sgM_roadRead_rzI508 sgM_roadRead_rzI509 sgM_roadRead_rzI510 u110 ⟨Nat.le_of_ble_eq_true rfl, Nat.le_of_ble_eq_true rfl⟩ ⟨Nat.zero_le _, Nat.zero_le _⟩ hl.1 (Nat.le_of_ble_eq_true rfl) dX16_roadRead_329 (fun H locs hP hS => ?_)
                      rw [sgM_roadRead_zI504, sgM_roadRead_zI505] at hP
                      refine lv_if_ne (tgt := 337) hx hb dX16_roadRead_332 (by decide) (fun c111 => ?_) (fun c111 => ?_)
                      · have hf := ifF c111 hf
                        refine lv_aload_n hx hb dX16_roadRead_337 rfl (lv_at hl 0 rfl) ?_
                        refine gM_15 E hK hP dX16_roadRead_338 ?_
                        refine lv_iload_n hx hb dX16_roadRead_341 rfl (lv_at hl 1 rfl) ?_
                        refine lv_iconst hx hb dX16_roadRead_342 ic_5 ?_
                        refine lv_iadd hx hb dX16_roadRead_343 ?_
                        refine lv_aload_n hx hb dX16_roadRead_344 rfl (lv_at hl 0 rfl) ?_
                        refine gM_9 (v := z104) E hK hP sgM_roadRead_rzI509 dX16_roadRead_345 ?_
                        obtain ⟨a112, ha112, hf⟩ := bdP hf
                        refine p_iast hx hb hK hP hS (hA _ (PA_c dM_615)) dM_615 sgM_roadRead_raI615 ha112 sgM_roadRead_aI615 dX16_roadRead_348 (fun H locs hP hS => ?_)
                        refine lv_aload_n hx hb dX16_roadRead_349 rfl (lv_at hl 0 rfl) ?_
                        obtain ⟨⟨z113, z114, z115, z116⟩, u117, hf⟩ := bdP hf
                        dsimp only at hf
                        refine cM_take E hK hP hS hA sgM_roadRead_rzI506 sgM_roadRead_rzI507 sgM_roadRead_rzI508 sgM_roadRead_rzI509 sgM_roadRead_rzI510 sgM_roadRead_raI600 sgM_roadRead_raI603 u117 ⟨Nat.le_of_ble_eq_true rfl, Nat.le_of_ble_eq_true rfl⟩ ⟨Nat.zero_le _, Nat.zero_le _⟩ hl.1 (Nat.le_of_ble_eq_true rfl) dX16_roadRead_350 (fun H locs hP hS => ?_)
                        rw [sgM_roadRead_zI507, sgM_roadRead_zI508, sgM_roadRead_zI509, sgM_roadRead_zI510] at hP
                        exact J353 z108 z109 z113 z114 z115 z116 a112 hf H locs hP hS ls (lv_sub hl [0, 1, 2] rfl)
                      · have hf := ifT c111 hf
                        refine lv_iconst hx hb dX16_roadRead_335 ic_0 ?_
                        cases hf
                        rw [hQ]; exact p_zret hx hb hr hlk hK hP hS rfl dX16_roadRead_336
                refine lv_if_eq (tgt := 309) hx hb dX16_roadRead_236 (by decide) (fun c118 => ?_) (fun c118 => ?_)
                · have hf := ifT c118 hf
                  exact J309 y60 z61 z62 z63 z64 z65 z66 a67 hf H locs hP hS ls (lv_sub hl [0, 1, 2] rfl)
                · have hf := ifF c118 hf
                  refine lv_iload_n hx hb dX16_roadRead_239 rfl (lv_at hl 2 rfl) ?_
                  have J252 : ∀ (z119 : Int32) (z120 : Int32), mo_roadRead_J252 (σ.1 506) (σ.2.2.1 600) (σ.2.2.1 603) (σ.2.2.1 611) (σ.2.2.1 613) (σ.2.2.1 616) z22 v35 z63 z64 z65 z66 a67 z119 z120 = some (r_, w_zI504, w_zI505, w_zI507, w_zI508, w_zI509, w_zI510, w_zI519, w_aI611, w_aI615, w_aI616) → ∀ (H : Heap) (locs : List Loc), PM D G ad (sgM_roadRead σ z119 z120 z63 z64 z65 z66 z22 (σ.2.2.1 611) a67 (σ.2.2.1 616)) H → va_S A s.heap H locs → ∀ (ls : Array Slot), lv_has ls 4 [(0, .ref (ad 500)), (2, .int v35)] → W p l e rmM_roadRead s m args below meth c0 H locs 0 0 Q (F0 m 252 ls []) := by
                    intro z119 z120 hf H locs hP hS ls hl
                    unfold mo_roadRead_J252 at hf
                    refine lv_iconst hx hb dX16_roadRead_252 ic_1 ?_
                    refine lv_istore_n (lv' := [(3, .int 1), (0, .ref (ad 500)), (2, .int v35)]) hx hb dX16_roadRead_253 rfl hl (by decide) rfl (fun ls hl => ?_)
                    refine lv_aload_n hx hb dX16_roadRead_254 rfl (lv_at hl 1 rfl) ?_
                    obtain ⟨⟨z121, z122, z123, z124⟩, u125, hf⟩ := bdP hf
                    dsimp only at hf
                    refine cM_take E hK hP hS hA sgM_roadRead_rzI506 sgM_roadRead_rzI507 sgM_roadRead_rzI508 sgM_roadRead_rzI509 sgM_roadRead_rzI510 sgM_roadRead_raI600 sgM_roadRead_raI603 u125 ⟨Nat.le_of_ble_eq_true rfl, Nat.le_of_ble_eq_true rfl⟩ ⟨Nat.zero_le _, Nat.zero_le _⟩ hl.1 (Nat.le_of_ble_eq_true rfl) dX16_roadRead_255 (fun H locs hP hS => ?_)
                    rw [sgM_roadRead_zI507, sgM_roadRead_zI508, sgM_roadRead_zI509, sgM_roadRead_zI510] at hP
                    refine lv_aload_n hx hb dX16_roadRead_258 rfl (lv_at hl 1 rfl) ?_
                    refine gM_8 (v := z122) E hK hP sgM_roadRead_rzI508 dX16_roadRead_259 ?_
                    refine lv_iconst hx hb dX16_roadRead_262 ic_2 ?_
                    refine lv_icmp_eq (tgt := 272) hx hb dX16_roadRead_263 (by decide) (fun c126 => ?_) (fun c126 => ?_)
                    · have hf := ifT c126 hf
                      refine lv_aload_n hx hb dX16_roadRead_272 rfl (lv_at hl 1 rfl) ?_
                      refine gM_15 E hK hP dX16_roadRead_273 ?_
                      refine lv_iload_n hx hb dX16_roadRead_276 rfl (lv_at hl 2 rfl) ?_
                      refine lv_iconst hx hb dX16_roadRead_277 ic_4 ?_
                      refine lv_iadd hx hb dX16_roadRead_278 ?_
                      refine lv_aload_n hx hb dX16_roadRead_279 rfl (lv_at hl 1 rfl) ?_
                      refine lv_aload_n hx hb dX16_roadRead_280 rfl (lv_at hl 1 rfl) ?_
                      refine gM_9 (v := z123) E hK hP sgM_roadRead_rzI509 dX16_roadRead_281 ?_
                      obtain ⟨v127, u128, hf⟩ := bdP hf
                      refine cM_causeBy E hK hP hS hA sgM_roadRead_raI611 sgM_roadRead_raI613 u128 ⟨Nat.le_of_ble_eq_true rfl, Nat.le_of_ble_eq_true rfl⟩ ⟨Nat.zero_le _, Nat.zero_le _⟩ hl.1 (Nat.le_of_ble_eq_true rfl) dX16_roadRead_284 (fun H locs hP hS => ?_)
                      obtain ⟨a129, ha129, hf⟩ := bdP hf
                      refine p_iast hx hb hK hP hS (hA _ (PA_c dM_615)) dM_615 sgM_roadRead_raI615 ha129 sgM_roadRead_aI615 dX16_roadRead_287 (fun H locs hP hS => ?_)
                      refine lv_aload_n hx hb dX16_roadRead_288 rfl (lv_at hl 1 rfl) ?_
                      refine gM_15 E hK hP dX16_roadRead_289 ?_
                      refine lv_iload_n hx hb dX16_roadRead_292 rfl (lv_at hl 2 rfl) ?_
                      refine lv_iconst hx hb dX16_roadRead_293 ic_4 ?_
                      refine lv_iadd hx hb dX16_roadRead_294 ?_
                      obtain ⟨v130, hv130, hf⟩ := bdP hf
                      refine p_iald hx hb hK hP dM_615 sgM_roadRead_raI615 hv130 dX16_roadRead_295 ?_
                      refine lv_if_ge (tgt := 305) hx hb dX16_roadRead_296 (by decide) (fun c131 => ?_) (fun c131 => ?_)
                      · have hf := ifT c131 hf
                        refine lv_aload_n hx hb dX16_roadRead_305 rfl (lv_at hl 1 rfl) ?_
                        obtain ⟨⟨z132, z133, z134, z135⟩, u136, hf⟩ := bdP hf
                        dsimp only at hf
                        refine cM_take E hK hP hS hA sgM_roadRead_rzI506 sgM_roadRead_rzI507 sgM_roadRead_rzI508 sgM_roadRead_rzI509 sgM_roadRead_rzI510 sgM_roadRead_raI600 sgM_roadRead_raI603 u136 ⟨Nat.le_of_ble_eq_true rfl, Nat.le_of_ble_eq_true rfl⟩ ⟨Nat.zero_le _, Nat.zero_le _⟩ hl.1 (Nat.le_of_ble_eq_true rfl) dX16_roadRead_306 (fun H locs hP hS => ?_)
                        rw [sgM_roadRead_zI507, sgM_roadRead_zI508, sgM_roadRead_zI509, sgM_roadRead_zI510] at hP
                        exact J309 1 z119 z120 z132 z133 z134 z135 a129 hf H locs hP hS ls (lv_sub hl [1, 2, 0] rfl)
                      · have hf := ifF c131 hf
                        refine lv_aload_n hx hb dX16_roadRead_299 rfl (lv_at hl 1 rfl) ?_
                        refine lv_iconst hx hb dX16_roadRead_300 ic_4 ?_
                        obtain ⟨⟨v137, z138, z139⟩, u140, hf⟩ := bdP hf
                        dsimp only at hf
                        refine cM_wrong E hK hP hS hA sgM_roadRead_rzI504 sgM_roadRead_rzI505 sgM_roadRead_rzI510 u140 ⟨Nat.le_of_ble_eq_true rfl, Nat.le_of_ble_eq_true rfl⟩ ⟨Nat.zero_le _, Nat.zero_le _⟩ hl.1 (Nat.le_of_ble_eq_true rfl) dX16_roadRead_301 (fun H locs hP hS => ?_)
                        rw [sgM_roadRead_zI504, sgM_roadRead_zI505] at hP
                        obtain ⟨v141, hv141, hf⟩ := bdP hf
                        obtain ⟨hv141a, hv141b⟩ := retZ_some hv141
                        subst hv141a
                        cases hf
                        rw [hQ]; exact p_zret hx hb hr hlk hK hP hS hv141b dX16_roadRead_304
                    · have hf := ifF c126 hf
                      refine lv_aload_n hx hb dX16_roadRead_266 rfl (lv_at hl 1 rfl) ?_
                      refine lv_iconst hx hb dX16_roadRead_267 ic_1 ?_
                      obtain ⟨⟨v142, z143, z144⟩, u145, hf⟩ := bdP hf
                      dsimp only at hf
                      refine cM_wrong E hK hP hS hA sgM_roadRead_rzI504 sgM_roadRead_rzI505 sgM_roadRead_rzI510 u145 ⟨Nat.le_of_ble_eq_true rfl, Nat.le_of_ble_eq_true rfl⟩ ⟨Nat.zero_le _, Nat.zero_le _⟩ hl.1 (Nat.le_of_ble_eq_true rfl) dX16_roadRead_268 (fun H locs hP hS => ?_)
                      rw [sgM_roadRead_zI504, sgM_roadRead_zI505] at hP
                      obtain ⟨v146, hv146, hf⟩ := bdP hf
                      obtain ⟨hv146a, hv146b⟩ := retZ_some hv146
                      subst hv146a
                      cases hf
                      rw [hQ]; exact p_zret hx hb hr hlk hK hP hS hv146b dX16_roadRead_271
                  refine lv_if_ne (tgt := 252) hx hb dX16_roadRead_240 (by decide) (fun c147 => ?_) (fun c147 => ?_)
                  · have hf := ifF c147 hf
                    exact J252 z61 z62 hf H locs hP hS ls (lv_sub hl [0, 1] rfl)
                  · have hf := ifT c147 hf
                    refine lv_aload_n hx hb dX16_roadRead_243 rfl (lv_at hl 0 rfl) ?_
                    obtain ⟨⟨v148, z149, z150⟩, u151, hf⟩ := bdP hf
                    dsimp only at hf
                    refine cM_isDoubtRoom E hK hP hS hA sgM_roadRead_rzI504 sgM_roadRead_rzI505 sgM_roadRead_rzI510 sgM_roadRead_raI611 u151 ⟨Nat.le_of_ble_eq_true rfl, Nat.le_of_ble_eq_true rfl⟩ ⟨Nat.zero_le _, Nat.zero_le _⟩ hl.1 (Nat.le_of_ble_eq_true rfl) dX16_roadRead_244 (fun H locs hP hS => ?_)
                    rw [sgM_roadRead_zI504, sgM_roadRead_zI505] at hP
                    refine lv_if_ne (tgt := 252) hx hb dX16_roadRead_247 (by decide) (fun c152 => ?_) (fun c152 => ?_)
                    · have hf := ifF c152 hf
                      exact J252 z149 z150 hf H locs hP hS ls (lv_sub hl [0, 1] rfl)
                    · have hf := ifT c152 hf
                      refine lv_iconst hx hb dX16_roadRead_250 ic_0 ?_
                      cases hf
                      rw [hQ]; exact p_zret hx hb hr hlk hK hP hS rfl dX16_roadRead_251
              refine lv_if_eq (tgt := 231) hx hb dX16_roadRead_185 (by decide) (fun c153 => ?_) (fun c153 => ?_)
              · have hf := ifT c153 hf
                exact J231 0 z44 z45 z53 z54 z55 z56 a52 hf H locs hP hS ls (lv_sub hl [3, 1, 0] rfl)
              · have hf := ifF c153 hf
                refine lv_aload_n hx hb dX16_roadRead_188 rfl (lv_at hl 3 rfl) ?_
                obtain ⟨⟨v154, z155, z156⟩, u157, hf⟩ := bdP hf
                dsimp only at hf
                refine cM_isDoubtRoom E hK hP hS hA sgM_roadRead_rzI504 sgM_roadRead_rzI505 sgM_roadRead_rzI510 sgM_roadRead_raI611 u157 ⟨Nat.le_of_ble_eq_true rfl, Nat.le_of_ble_eq_true rfl⟩ ⟨Nat.zero_le _, Nat.zero_le _⟩ hl.1 (Nat.le_of_ble_eq_true rfl) dX16_roadRead_189 (fun H locs hP hS => ?_)
                rw [sgM_roadRead_zI504, sgM_roadRead_zI505] at hP
                refine lv_if_ne (tgt := 197) hx hb dX16_roadRead_192 (by decide) (fun c158 => ?_) (fun c158 => ?_)
                · have hf := ifF c158 hf
                  refine lv_iconst hx hb dX16_roadRead_197 ic_1 ?_
                  refine lv_istore_n (lv' := [(3, .int 1), (2, .int v35), (1, .int z11), (0, .ref (ad 500))]) hx hb dX16_roadRead_198 rfl hl (by decide) rfl (fun ls hl => ?_)
                  refine lv_aload_n hx hb dX16_roadRead_199 rfl (lv_at hl 3 rfl) ?_
                  obtain ⟨⟨z159, z160, z161, z162⟩, u163, hf⟩ := bdP hf
                  dsimp only at hf
                  refine cM_take E hK hP hS hA sgM_roadRead_rzI506 sgM_roadRead_rzI507 sgM_roadRead_rzI508 sgM_roadRead_rzI509 sgM_roadRead_rzI510 sgM_roadRead_raI600 sgM_roadRead_raI603 u163 ⟨Nat.le_of_ble_eq_true rfl, Nat.le_of_ble_eq_true rfl⟩ ⟨Nat.zero_le _, Nat.zero_le _⟩ hl.1 (Nat.le_of_ble_eq_true rfl) dX16_roadRead_200 (fun H locs hP hS => ?_)
                  rw [sgM_roadRead_zI507, sgM_roadRead_zI508, sgM_roadRead_zI509, sgM_roadRead_zI510] at hP
                  refine lv_aload_n hx hb dX16_roadRead_203 rfl (lv_at hl 3 rfl) ?_
                  refine lv_iconst hx hb dX16_roadRead_204 ic_1 ?_
                  refine lv_bipush hx hb dX16_roadRead_205 bp_9 ?_
                  obtain ⟨⟨v164, z165, z166⟩, u167, hf⟩ := bdP hf
                  dsimp only at hf
                  refine cM_numberRead E hK hP hS hA sgM_roadRead_rzI504 sgM_roadRead_rzI505 sgM_roadRead_rzI508 sgM_roadRead_rzI509 sgM_roadRead_rzI510 u167 ⟨Nat.le_of_ble_eq_true rfl, Nat.le_of_ble_eq_true rfl⟩ ⟨Nat.zero_le _, Nat.zero_le _⟩ hl.1 (Nat.le_of_ble_eq_true rfl) dX16_roadRead_207 (fun H locs hP hS => ?_)
                  rw [sgM_roadRead_zI504, sgM_roadRead_zI505] at hP
                  refine lv_if_ne (tgt := 215) hx hb dX16_roadRead_210 (by decide) (fun c168 => ?_) (fun c168 => ?_)
                  · have hf := ifF c168 hf
                    refine lv_aload_n hx hb dX16_roadRead_215 rfl (lv_at hl 3 rfl) ?_
                    refine gM_15 E hK hP dX16_roadRead_216 ?_
                    refine lv_iload_n hx hb dX16_roadRead_219 rfl (lv_at hl 1 rfl) ?_
                    refine lv_iconst hx hb dX16_roadRead_220 ic_3 ?_
                    refine lv_iadd hx hb dX16_roadRead_221 ?_
                    refine lv_aload_n hx hb dX16_roadRead_222 rfl (lv_at hl 3 rfl) ?_
                    refine gM_9 (v := z161) E hK hP sgM_roadRead_rzI509 dX16_roadRead_223 ?_
                    obtain ⟨a169, ha169, hf⟩ := bdP hf
                    refine p_iast hx hb hK hP hS (hA _ (PA_c dM_615)) dM_615 sgM_roadRead_raI615 ha169 sgM_roadRead_aI615 dX16_roadRead_226 (fun H locs hP hS => ?_)
                    refine lv_aload_n hx hb dX16_roadRead_227 rfl (lv_at hl 3 rfl) ?_
                    obtain ⟨⟨z170, z171, z172, z173⟩, u174, hf⟩ := bdP hf
                    dsimp only at hf
                    refine cM_take E hK hP hS hA sgM_roadRead_rzI506 sgM_roadRead_rzI507 sgM_roadRead_rzI508 sgM_roadRead_rzI509 sgM_roadRead_rzI510 sgM_roadRead_raI600 sgM_roadRead_raI603 u174 ⟨Nat.le_of_ble_eq_true rfl, Nat.le_of_ble_eq_true rfl⟩ ⟨Nat.zero_le _, Nat.zero_le _⟩ hl.1 (Nat.le_of_ble_eq_true rfl) dX16_roadRead_228 (fun H locs hP hS => ?_)
                    rw [sgM_roadRead_zI507, sgM_roadRead_zI508, sgM_roadRead_zI509, sgM_roadRead_zI510] at hP
                    exact J231 1 z165 z166 z170 z171 z172 z173 a169 hf H locs hP hS ls (lv_sub hl [3, 1, 0] rfl)
                  · have hf := ifT c168 hf
                    refine lv_iconst hx hb dX16_roadRead_213 ic_0 ?_
                    cases hf
                    rw [hQ]; exact p_zret hx hb hr hlk hK hP hS rfl dX16_roadRead_214
                · have hf := ifT c158 hf
                  refine lv_iconst hx hb dX16_roadRead_195 ic_0 ?_
                  cases hf
                  rw [hQ]; exact p_zret hx hb hr hlk hK hP hS rfl dX16_roadRead_196
            · have hf := ifT c47 hf
              refine lv_iconst hx hb dX16_roadRead_123 ic_0 ?_
              cases hf
              rw [hQ]; exact p_zret hx hb hr hlk hK hP hS rfl dX16_roadRead_124
          · have hf := ifF c33 hf
            exact J69  hf H locs hP hS ls (lv_sub hl [1] rfl)
      · have hf := ifT c24 hf
        refine lv_iconst hx hb dX16_roadRead_47 ic_0 ?_
        cases hf
        rw [hQ]; exact p_zret hx hb hr hlk hK hP hS rfl dX16_roadRead_48
    · have hf := ifT c13 hf
      refine lv_iconst hx hb dX16_roadRead_29 ic_0 ?_
      cases hf
      rw [hQ]; exact p_zret hx hb hr hlk hK hP hS rfl dX16_roadRead_30
  · have hf := ifT c2 hf
    refine lv_aload_n hx hb dX16_roadRead_12 rfl (lv_at hl 0 rfl) ?_
    refine lv_iconst hx hb dX16_roadRead_13 ic_2 ?_
    obtain ⟨⟨v175, z176, z177⟩, u178, hf⟩ := bdP hf
    dsimp only at hf
    refine cM_wrong E hK hP hS hA sgM_roadRead_rzI504 sgM_roadRead_rzI505 sgM_roadRead_rzI510 u178 ⟨Nat.le_of_ble_eq_true rfl, Nat.le_of_ble_eq_true rfl⟩ ⟨Nat.zero_le _, Nat.zero_le _⟩ hl.1 (Nat.le_of_ble_eq_true rfl) dX16_roadRead_14 (fun H locs hP hS => ?_)
    rw [sgM_roadRead_zI504, sgM_roadRead_zI505] at hP
    obtain ⟨v179, hv179, hf⟩ := bdP hf
    obtain ⟨hv179a, hv179b⟩ := retZ_some hv179
    subst hv179a
    cases hf
    rw [hQ]; exact p_zret hx hb hr hlk hK hP hS hv179b dX16_roadRead_17
theorem kM_roadRead (l : Launch) (D : va_G) (G : Nat → ClassId) (ad : Nat → Nat) (σ : Sto) {r_ : Int32} {w_zI504 : Int32} {w_zI505 : Int32} {w_zI507 : Int32} {w_zI508 : Int32} {w_zI509 : Int32} {w_zI510 : Int32} {w_zI519 : Int32} {w_aI611 : Nat → Int32} {w_aI615 : Nat → Int32} {w_aI616 : Nat → Int32} (hf : mo_roadRead (σ.1 504) (σ.1 505) (σ.1 506) (σ.1 507) (σ.1 508) (σ.1 509) (σ.1 510) (σ.1 519) (σ.2.2.1 600) (σ.2.2.1 603) (σ.2.2.1 611) (σ.2.2.1 612) (σ.2.2.1 613) (σ.2.2.1 615) (σ.2.2.1 616) = some (r_, w_zI504, w_zI505, w_zI507, w_zI508, w_zI509, w_zI510, w_zI519, w_aI611, w_aI615, w_aI616)) : CtI l D clsA G dscM ad yX16_roadRead (ws_ yX16_roadRead cX16_roadRead 4 (Option.some Jvm.ClassFile.FieldType.boolean)) rmM_roadRead [.ref (ad 500)] σ r_ (sgM_roadRead σ w_zI504 w_zI505 w_zI507 w_zI508 w_zI509 w_zI510 w_zI519 w_aI611 w_aI615 w_aI616) :=
  p_ctI (by decide +kernel) (Nat.le_of_ble_eq_true rfl) (fun p e s m below meth c0 ls A E hP hK hA hS hl => wkM_roadRead E hK hA hf rfl hP hS hl)
theorem cM_roadRead (E : EN p s m args meth c0 RX16 cc nL ret) (hK : KK D clsA G s) (hP : PM D G ad σ H) (hS : va_S A s.heap H locs) (hA : ∀ q, PA dscM ad s.heap.size q → A q) {r_ : Int32} {w_zI504 : Int32} {w_zI505 : Int32} {w_zI507 : Int32} {w_zI508 : Int32} {w_zI509 : Int32} {w_zI510 : Int32} {w_zI519 : Int32} {w_aI611 : Nat → Int32} {w_aI615 : Nat → Int32} {w_aI616 : Nat → Int32} {z_fault : Int32} (e_zI504 : σ.1 504 = z_fault) {z_faultPlace : Int32} (e_zI505 : σ.1 505 = z_faultPlace) {z_stop : Int32} (e_zI506 : σ.1 506 = z_stop) {z_next : Int32} (e_zI507 : σ.1 507 = z_next) {z_kind : Int32} (e_zI508 : σ.1 508 = z_kind) {z_which : Int32} (e_zI509 : σ.1 509 = z_which) {z_at : Int32} (e_zI510 : σ.1 510 = z_at) {z_spot : Int32} (e_zI519 : σ.1 519 = z_spot) {a_tape : Nat → Int32} (e_aI600 : σ.2.2.1 600 = a_tape) {a_words : Nat → Int32} (e_aI603 : σ.2.2.1 603 = a_words) {a_many : Nat → Int32} (e_aI611 : σ.2.2.1 611 = a_many) {a_placeName : Nat → Int32} (e_aI612 : σ.2.2.1 612 = a_placeName) {a_causeName : Nat → Int32} (e_aI613 : σ.2.2.1 613 = a_causeName) {a_road : Nat → Int32} (e_aI615 : σ.2.2.1 615 = a_road) {a_doubtful : Nat → Int32} (e_aI616 : σ.2.2.1 616 = a_doubtful) (hu : mo_roadRead z_fault z_faultPlace z_stop z_next z_kind z_which z_at z_spot a_tape a_words a_many a_placeName a_causeName a_road a_doubtful = some (r_, w_zI504, w_zI505, w_zI507, w_zI508, w_zI509, w_zI510, w_zI519, w_aI611, w_aI615, w_aI616)) (hR : rmM_roadRead.frames + 1 ≤ R.frames ∧ 8 + (4 + 11) + rmM_roadRead.locals ≤ R.locals) (hcs : cells ≤ R.cells ∧ slots ≤ R.slots) (hsz : ls.size = nL) (hW : (rest.map fun v => v.category).sum ≤ 8) (hdg : decode cc pc = .ok (.invokevirtual 219, 3)) (kk : ∀ (H1 : Heap) (locs1 : List Loc), PM D G ad (aI (aI (aI (zI (zI (zI (zI (zI (zI (zI σ 504 w_zI504) 505 w_zI505) 507 w_zI507) 508 w_zI508) 509 w_zI509) 510 w_zI510) 519 w_zI519) 611 w_aI611) 615 w_aI615) 616 w_aI616) H1 → va_S A s.heap H1 locs1 → W p l e R s m args below meth c0 H1 locs1 cells slots Q (F0 m (pc + 3) ls (.int r_ :: rest))) : W p l e R s m args below meth c0 H locs cells slots Q (F0 m pc ls (.ref (ad 500) :: rest)) := by
  subst e_zI504
  subst e_zI505
  subst e_zI506
  subst e_zI507
  subst e_zI508
  subst e_zI509
  subst e_zI510
  subst e_zI519
  subst e_aI600
  subst e_aI603
  subst e_aI611
  subst e_aI612
  subst e_aI613
  subst e_aI615
  subst e_aI616
  exact p_callI (As := []) (rest := rest) E.1 hK hP hS hA (kM_roadRead l D G ad σ hu) (cwV 0 E.1.2.2.2.2 (lw_V q1922 q1924 qs66 q142 q1925) rfl rfl rfl (by decide +kernel) hR) dM_500 rfl rfl rfl hsz rfl hW hdg hcs kk
/-! seesRead()Z -/
def sgM_seesRead (σ : Sto) (w0 : Int32) (w1 : Int32) (w2 : Int32) (w3 : Int32) (w4 : Int32) (w5 : Int32) (w6 : Int32) (w7 : Nat → Int32) (w8 : Nat → Int32) : Sto := aI (aI (zI (zI (zI (zI (zI (zI (zI σ 504 w0) 505 w1) 507 w2) 508 w3) 509 w4) 510 w5) 519 w6) 611 w7) 617 w8
theorem sgM_seesRead_self (σ : Sto) : sgM_seesRead σ (σ.1 504) (σ.1 505) (σ.1 507) (σ.1 508) (σ.1 509) (σ.1 510) (σ.1 519) (σ.2.2.1 611) (σ.2.2.1 617) = σ := by
  unfold sgM_seesRead
  simp only [zI_self, zL_self, aI_self, aL_self]
theorem sgM_seesRead_zI504 {σ : Sto} {w0 : Int32} {w1 : Int32} {w2 : Int32} {w3 : Int32} {w4 : Int32} {w5 : Int32} {w6 : Int32} {w7 : Nat → Int32} {w8 : Nat → Int32} {g : Int32} : zI (sgM_seesRead σ w0 w1 w2 w3 w4 w5 w6 w7 w8) 504 g = sgM_seesRead σ g w1 w2 w3 w4 w5 w6 w7 w8 := (cm_zI_aI _ _ _ _ _).trans (congrArg (fun z => aI z 617 w8) ((cm_zI_aI _ _ _ _ _).trans (congrArg (fun z => aI z 611 w7) ((zI_comm _ (by decide) _ _).trans (congrArg (fun z => zI z 519 w6) ((zI_comm _ (by decide) _ _).trans (congrArg (fun z => zI z 510 w5) ((zI_comm _ (by decide) _ _).trans (congrArg (fun z => zI z 509 w4) ((zI_comm _ (by decide) _ _).trans (congrArg (fun z => zI z 508 w3) ((zI_comm _ (by decide) _ _).trans (congrArg (fun z => zI z 507 w2) ((zI_comm _ (by decide) _ _).trans (congrArg (fun z => zI z 505 w1) (zI_zI _ 504 _ _))))))))))))))))
theorem sgM_seesRead_zI505 {σ : Sto} {w0 : Int32} {w1 : Int32} {w2 : Int32} {w3 : Int32} {w4 : Int32} {w5 : Int32} {w6 : Int32} {w7 : Nat → Int32} {w8 : Nat → Int32} {g : Int32} : zI (sgM_seesRead σ w0 w1 w2 w3 w4 w5 w6 w7 w8) 505 g = sgM_seesRead σ w0 g w2 w3 w4 w5 w6 w7 w8 := (cm_zI_aI _ _ _ _ _).trans (congrArg (fun z => aI z 617 w8) ((cm_zI_aI _ _ _ _ _).trans (congrArg (fun z => aI z 611 w7) ((zI_comm _ (by decide) _ _).trans (congrArg (fun z => zI z 519 w6) ((zI_comm _ (by decide) _ _).trans (congrArg (fun z => zI z 510 w5) ((zI_comm _ (by decide) _ _).trans (congrArg (fun z => zI z 509 w4) ((zI_comm _ (by decide) _ _).trans (congrArg (fun z => zI z 508 w3) ((zI_comm _ (by decide) _ _).trans (congrArg (fun z => zI z 507 w2) (zI_zI _ 505 _ _))))))))))))))
theorem sgM_seesRead_zI507 {σ : Sto} {w0 : Int32} {w1 : Int32} {w2 : Int32} {w3 : Int32} {w4 : Int32} {w5 : Int32} {w6 : Int32} {w7 : Nat → Int32} {w8 : Nat → Int32} {g : Int32} : zI (sgM_seesRead σ w0 w1 w2 w3 w4 w5 w6 w7 w8) 507 g = sgM_seesRead σ w0 w1 g w3 w4 w5 w6 w7 w8 := (cm_zI_aI _ _ _ _ _).trans (congrArg (fun z => aI z 617 w8) ((cm_zI_aI _ _ _ _ _).trans (congrArg (fun z => aI z 611 w7) ((zI_comm _ (by decide) _ _).trans (congrArg (fun z => zI z 519 w6) ((zI_comm _ (by decide) _ _).trans (congrArg (fun z => zI z 510 w5) ((zI_comm _ (by decide) _ _).trans (congrArg (fun z => zI z 509 w4) ((zI_comm _ (by decide) _ _).trans (congrArg (fun z => zI z 508 w3) (zI_zI _ 507 _ _))))))))))))
theorem sgM_seesRead_zI508 {σ : Sto} {w0 : Int32} {w1 : Int32} {w2 : Int32} {w3 : Int32} {w4 : Int32} {w5 : Int32} {w6 : Int32} {w7 : Nat → Int32} {w8 : Nat → Int32} {g : Int32} : zI (sgM_seesRead σ w0 w1 w2 w3 w4 w5 w6 w7 w8) 508 g = sgM_seesRead σ w0 w1 w2 g w4 w5 w6 w7 w8 := (cm_zI_aI _ _ _ _ _).trans (congrArg (fun z => aI z 617 w8) ((cm_zI_aI _ _ _ _ _).trans (congrArg (fun z => aI z 611 w7) ((zI_comm _ (by decide) _ _).trans (congrArg (fun z => zI z 519 w6) ((zI_comm _ (by decide) _ _).trans (congrArg (fun z => zI z 510 w5) ((zI_comm _ (by decide) _ _).trans (congrArg (fun z => zI z 509 w4) (zI_zI _ 508 _ _))))))))))
theorem sgM_seesRead_zI509 {σ : Sto} {w0 : Int32} {w1 : Int32} {w2 : Int32} {w3 : Int32} {w4 : Int32} {w5 : Int32} {w6 : Int32} {w7 : Nat → Int32} {w8 : Nat → Int32} {g : Int32} : zI (sgM_seesRead σ w0 w1 w2 w3 w4 w5 w6 w7 w8) 509 g = sgM_seesRead σ w0 w1 w2 w3 g w5 w6 w7 w8 := (cm_zI_aI _ _ _ _ _).trans (congrArg (fun z => aI z 617 w8) ((cm_zI_aI _ _ _ _ _).trans (congrArg (fun z => aI z 611 w7) ((zI_comm _ (by decide) _ _).trans (congrArg (fun z => zI z 519 w6) ((zI_comm _ (by decide) _ _).trans (congrArg (fun z => zI z 510 w5) (zI_zI _ 509 _ _))))))))
theorem sgM_seesRead_zI510 {σ : Sto} {w0 : Int32} {w1 : Int32} {w2 : Int32} {w3 : Int32} {w4 : Int32} {w5 : Int32} {w6 : Int32} {w7 : Nat → Int32} {w8 : Nat → Int32} {g : Int32} : zI (sgM_seesRead σ w0 w1 w2 w3 w4 w5 w6 w7 w8) 510 g = sgM_seesRead σ w0 w1 w2 w3 w4 g w6 w7 w8 := (cm_zI_aI _ _ _ _ _).trans (congrArg (fun z => aI z 617 w8) ((cm_zI_aI _ _ _ _ _).trans (congrArg (fun z => aI z 611 w7) ((zI_comm _ (by decide) _ _).trans (congrArg (fun z => zI z 519 w6) (zI_zI _ 510 _ _))))))
theorem sgM_seesRead_zI519 {σ : Sto} {w0 : Int32} {w1 : Int32} {w2 : Int32} {w3 : Int32} {w4 : Int32} {w5 : Int32} {w6 : Int32} {w7 : Nat → Int32} {w8 : Nat → Int32} {g : Int32} : zI (sgM_seesRead σ w0 w1 w2 w3 w4 w5 w6 w7 w8) 519 g = sgM_seesRead σ w0 w1 w2 w3 w4 w5 g w7 w8 := (cm_zI_aI _ _ _ _ _).trans (congrArg (fun z => aI z 617 w8) ((cm_zI_aI _ _ _ _ _).trans (congrArg (fun z => aI z 611 w7) (zI_zI _ 519 _ _))))
theorem sgM_seesRead_aI611 {σ : Sto} {w0 : Int32} {w1 : Int32} {w2 : Int32} {w3 : Int32} {w4 : Int32} {w5 : Int32} {w6 : Int32} {w7 : Nat → Int32} {w8 : Nat → Int32} {g : Nat → Int32} : aI (sgM_seesRead σ w0 w1 w2 w3 w4 w5 w6 w7 w8) 611 g = sgM_seesRead σ w0 w1 w2 w3 w4 w5 w6 g w8 := (aI_comm _ (by decide) _ _).trans (congrArg (fun z => aI z 617 w8) (aI_aI _ 611 _ _))
theorem sgM_seesRead_aI617 {σ : Sto} {w0 : Int32} {w1 : Int32} {w2 : Int32} {w3 : Int32} {w4 : Int32} {w5 : Int32} {w6 : Int32} {w7 : Nat → Int32} {w8 : Nat → Int32} {g : Nat → Int32} : aI (sgM_seesRead σ w0 w1 w2 w3 w4 w5 w6 w7 w8) 617 g = sgM_seesRead σ w0 w1 w2 w3 w4 w5 w6 w7 g := aI_aI _ 617 _ _
theorem sgM_seesRead_rzI504 {σ : Sto} {w0 : Int32} {w1 : Int32} {w2 : Int32} {w3 : Int32} {w4 : Int32} {w5 : Int32} {w6 : Int32} {w7 : Nat → Int32} {w8 : Nat → Int32} : (sgM_seesRead σ w0 w1 w2 w3 w4 w5 w6 w7 w8).1 504 = w0 := rfl
theorem sgM_seesRead_rzI505 {σ : Sto} {w0 : Int32} {w1 : Int32} {w2 : Int32} {w3 : Int32} {w4 : Int32} {w5 : Int32} {w6 : Int32} {w7 : Nat → Int32} {w8 : Nat → Int32} : (sgM_seesRead σ w0 w1 w2 w3 w4 w5 w6 w7 w8).1 505 = w1 := rfl
theorem sgM_seesRead_rzI506 {σ : Sto} {w0 : Int32} {w1 : Int32} {w2 : Int32} {w3 : Int32} {w4 : Int32} {w5 : Int32} {w6 : Int32} {w7 : Nat → Int32} {w8 : Nat → Int32} : (sgM_seesRead σ w0 w1 w2 w3 w4 w5 w6 w7 w8).1 506 = σ.1 506 := rfl
theorem sgM_seesRead_rzI507 {σ : Sto} {w0 : Int32} {w1 : Int32} {w2 : Int32} {w3 : Int32} {w4 : Int32} {w5 : Int32} {w6 : Int32} {w7 : Nat → Int32} {w8 : Nat → Int32} : (sgM_seesRead σ w0 w1 w2 w3 w4 w5 w6 w7 w8).1 507 = w2 := rfl
theorem sgM_seesRead_rzI508 {σ : Sto} {w0 : Int32} {w1 : Int32} {w2 : Int32} {w3 : Int32} {w4 : Int32} {w5 : Int32} {w6 : Int32} {w7 : Nat → Int32} {w8 : Nat → Int32} : (sgM_seesRead σ w0 w1 w2 w3 w4 w5 w6 w7 w8).1 508 = w3 := rfl
theorem sgM_seesRead_rzI509 {σ : Sto} {w0 : Int32} {w1 : Int32} {w2 : Int32} {w3 : Int32} {w4 : Int32} {w5 : Int32} {w6 : Int32} {w7 : Nat → Int32} {w8 : Nat → Int32} : (sgM_seesRead σ w0 w1 w2 w3 w4 w5 w6 w7 w8).1 509 = w4 := rfl
theorem sgM_seesRead_rzI510 {σ : Sto} {w0 : Int32} {w1 : Int32} {w2 : Int32} {w3 : Int32} {w4 : Int32} {w5 : Int32} {w6 : Int32} {w7 : Nat → Int32} {w8 : Nat → Int32} : (sgM_seesRead σ w0 w1 w2 w3 w4 w5 w6 w7 w8).1 510 = w5 := rfl
theorem sgM_seesRead_rzI519 {σ : Sto} {w0 : Int32} {w1 : Int32} {w2 : Int32} {w3 : Int32} {w4 : Int32} {w5 : Int32} {w6 : Int32} {w7 : Nat → Int32} {w8 : Nat → Int32} : (sgM_seesRead σ w0 w1 w2 w3 w4 w5 w6 w7 w8).1 519 = w6 := rfl
theorem sgM_seesRead_raI600 {σ : Sto} {w0 : Int32} {w1 : Int32} {w2 : Int32} {w3 : Int32} {w4 : Int32} {w5 : Int32} {w6 : Int32} {w7 : Nat → Int32} {w8 : Nat → Int32} : (sgM_seesRead σ w0 w1 w2 w3 w4 w5 w6 w7 w8).2.2.1 600 = σ.2.2.1 600 := rfl
theorem sgM_seesRead_raI603 {σ : Sto} {w0 : Int32} {w1 : Int32} {w2 : Int32} {w3 : Int32} {w4 : Int32} {w5 : Int32} {w6 : Int32} {w7 : Nat → Int32} {w8 : Nat → Int32} : (sgM_seesRead σ w0 w1 w2 w3 w4 w5 w6 w7 w8).2.2.1 603 = σ.2.2.1 603 := rfl
theorem sgM_seesRead_raI611 {σ : Sto} {w0 : Int32} {w1 : Int32} {w2 : Int32} {w3 : Int32} {w4 : Int32} {w5 : Int32} {w6 : Int32} {w7 : Nat → Int32} {w8 : Nat → Int32} : (sgM_seesRead σ w0 w1 w2 w3 w4 w5 w6 w7 w8).2.2.1 611 = w7 := rfl
theorem sgM_seesRead_raI612 {σ : Sto} {w0 : Int32} {w1 : Int32} {w2 : Int32} {w3 : Int32} {w4 : Int32} {w5 : Int32} {w6 : Int32} {w7 : Nat → Int32} {w8 : Nat → Int32} : (sgM_seesRead σ w0 w1 w2 w3 w4 w5 w6 w7 w8).2.2.1 612 = σ.2.2.1 612 := rfl
theorem sgM_seesRead_raI615 {σ : Sto} {w0 : Int32} {w1 : Int32} {w2 : Int32} {w3 : Int32} {w4 : Int32} {w5 : Int32} {w6 : Int32} {w7 : Nat → Int32} {w8 : Nat → Int32} : (sgM_seesRead σ w0 w1 w2 w3 w4 w5 w6 w7 w8).2.2.1 615 = σ.2.2.1 615 := rfl
theorem sgM_seesRead_raI617 {σ : Sto} {w0 : Int32} {w1 : Int32} {w2 : Int32} {w3 : Int32} {w4 : Int32} {w5 : Int32} {w6 : Int32} {w7 : Nat → Int32} {w8 : Nat → Int32} : (sgM_seesRead σ w0 w1 w2 w3 w4 w5 w6 w7 w8).2.2.1 617 = w8 := rfl
abbrev rmM_seesRead : Room := { frames := 3, cells := 0, slots := 0, locals := 71 }
set_option maxHeartbeats 4000000 in
theorem wkM_seesRead  {r_ : Int32} {w_zI504 : Int32} {w_zI505 : Int32} {w_zI507 : Int32} {w_zI508 : Int32} {w_zI509 : Int32} {w_zI510 : Int32} {w_zI519 : Int32} {w_aI611 : Nat → Int32} {w_aI617 : Nat → Int32} (E : EN p s m args meth c0 RX16 cX16_seesRead 3 (Option.some Jvm.ClassFile.FieldType.boolean)) (hK : KK D clsA G s) (hA : ∀ q, PA dscM ad s.heap.size q → A q) (hf : mo_seesRead (σ.1 504) (σ.1 505) (σ.1 506) (σ.1 507) (σ.1 508) (σ.1 509) (σ.1 510) (σ.1 519) (σ.2.2.1 600) (σ.2.2.1 603) (σ.2.2.1 611) (σ.2.2.1 612) (σ.2.2.1 615) (σ.2.2.1 617) = some (r_, w_zI504, w_zI505, w_zI507, w_zI508, w_zI509, w_zI510, w_zI519, w_aI611, w_aI617)) (hQ : Q = MQ below (va_Qi (fun x (_ : Unit) => x = r_) (fun _ t => PM D G ad (sgM_seesRead σ w_zI504 w_zI505 w_zI507 w_zI508 w_zI509 w_zI510 w_zI519 w_aI611 w_aI617) t.heap ∧ KK D clsA G t) A) args s 0 0 A) (hP : PM D G ad σ H) (hS : va_S A s.heap H locs) (hl : lv_has ls 3 [(0, .ref (ad 500))]) : W p l e rmM_seesRead s m args below meth c0 H locs 0 0 Q (F0 m 0 ls []) := by
  obtain ⟨⟨hx, hb, hml, hown, hts⟩, hr, hlk⟩ := id E
  have hP := hP.to (sgM_seesRead_self σ).symm
  unfold mo_seesRead at hf
  refine lv_aload_n hx hb dX16_seesRead_0 rfl (lv_at hl 0 rfl) ?_
  refine gM_11 E hK hP dX16_seesRead_1 ?_
  refine lv_bipush hx hb dX16_seesRead_4 bp_12 ?_
  obtain ⟨v1, hv1, hf⟩ := bdP hf
  refine p_iald hx hb hK hP dM_611 sgM_seesRead_raI611 hv1 dX16_seesRead_6 ?_
  refine lv_bipush hx hb dX16_seesRead_7 bp_8 ?_
  refine lv_icmp_ne (tgt := 18) hx hb dX16_seesRead_9 (by decide) (fun c2 => ?_) (fun c2 => ?_)
  · have hf := ifF c2 hf
    refine lv_aload_n hx hb dX16_seesRead_18 rfl (lv_at hl 0 rfl) ?_
    obtain ⟨⟨v3, z4, z5, z6, z7, z8, z9, z10⟩, u11, hf⟩ := bdP hf
    dsimp only at hf
    refine cM_seenRead E hK hP hS hA sgM_seesRead_rzI504 sgM_seesRead_rzI505 sgM_seesRead_rzI506 sgM_seesRead_rzI507 sgM_seesRead_rzI508 sgM_seesRead_rzI509 sgM_seesRead_rzI510 sgM_seesRead_rzI519 sgM_seesRead_raI600 sgM_seesRead_raI603 sgM_seesRead_raI611 sgM_seesRead_raI612 sgM_seesRead_raI615 u11 ⟨Nat.le_of_ble_eq_true rfl, Nat.le_of_ble_eq_true rfl⟩ ⟨Nat.zero_le _, Nat.zero_le _⟩ hl.1 (Nat.le_of_ble_eq_true rfl) dX16_seesRead_19 (fun H locs hP hS => ?_)
    rw [sgM_seesRead_zI504, sgM_seesRead_zI505, sgM_seesRead_zI507, sgM_seesRead_zI508, sgM_seesRead_zI509, sgM_seesRead_zI510, sgM_seesRead_zI519] at hP
    refine lv_istore_n (lv' := [(1, .int v3), (0, .ref (ad 500))]) hx hb dX16_seesRead_22 rfl hl (by decide) rfl (fun ls hl => ?_)
    refine lv_iload_n hx hb dX16_seesRead_23 rfl (lv_at hl 0 rfl) ?_
    refine lv_if_ge (tgt := 29) hx hb dX16_seesRead_24 (by decide) (fun c12 => ?_) (fun c12 => ?_)
    · have hf := ifT c12 hf
      refine lv_bipush hx hb dX16_seesRead_29 bp_16 ?_
      refine lv_iconst hx hb dX16_seesRead_31 ic_2 ?_
      refine lv_aload_n hx hb dX16_seesRead_32 rfl (lv_at hl 1 rfl) ?_
      refine gM_11 E hK hP dX16_seesRead_33 ?_
      refine lv_bipush hx hb dX16_seesRead_36 bp_12 ?_
      obtain ⟨v13, hv13, hf⟩ := bdP hf
      refine p_iald hx hb hK hP dM_611 sgM_seesRead_raI611 hv13 dX16_seesRead_38 ?_
      refine lv_imul hx hb dX16_seesRead_39 ?_
      refine lv_iadd hx hb dX16_seesRead_40 ?_
      obtain ⟨v14, hv14, hf⟩ := bdP hf
      refine nm_i (Option.some.inj hv14) ?_
      refine lv_istore_n (lv' := [(2, .int v14), (1, .int v3), (0, .ref (ad 500))]) hx hb dX16_seesRead_41 rfl hl (by decide) rfl (fun ls hl => ?_)
      refine lv_aload_n hx hb dX16_seesRead_42 rfl (lv_at hl 2 rfl) ?_
      refine gM_17 E hK hP dX16_seesRead_43 ?_
      refine lv_iload_n hx hb dX16_seesRead_46 rfl (lv_at hl 0 rfl) ?_
      refine lv_iload_n hx hb dX16_seesRead_47 rfl (lv_at hl 1 rfl) ?_
      refine lv_bipush hx hb dX16_seesRead_48 bp_6 ?_
      obtain ⟨v15, hv15, hf⟩ := bdP hf
      refine lv_idiv hx hb dX16_seesRead_50 (dvI_some hv15).1 ?_
      refine nm_i (dvI_some hv15).2 ?_
      obtain ⟨a16, ha16, hf⟩ := bdP hf
      refine p_iast hx hb hK hP hS (hA _ (PA_c dM_617)) dM_617 sgM_seesRead_raI617 ha16 sgM_seesRead_aI617 dX16_seesRead_51 (fun H locs hP hS => ?_)
      refine lv_aload_n hx hb dX16_seesRead_52 rfl (lv_at hl 2 rfl) ?_
      refine gM_17 E hK hP dX16_seesRead_53 ?_
      refine lv_iload_n hx hb dX16_seesRead_56 rfl (lv_at hl 0 rfl) ?_
      refine lv_iconst hx hb dX16_seesRead_57 ic_1 ?_
      refine lv_iadd hx hb dX16_seesRead_58 ?_
      refine lv_iload_n hx hb dX16_seesRead_59 rfl (lv_at hl 1 rfl) ?_
      refine lv_bipush hx hb dX16_seesRead_60 bp_6 ?_
      obtain ⟨v17, hv17, hf⟩ := bdP hf
      refine lv_irem hx hb dX16_seesRead_62 (rmI_some hv17).1 ?_
      refine nm_i (rmI_some hv17).2 ?_
      obtain ⟨a18, ha18, hf⟩ := bdP hf
      refine p_iast hx hb hK hP hS (hA _ (PA_c dM_617)) dM_617 sgM_seesRead_raI617 ha18 sgM_seesRead_aI617 dX16_seesRead_63 (fun H locs hP hS => ?_)
      refine lv_aload_n hx hb dX16_seesRead_64 rfl (lv_at hl 2 rfl) ?_
      refine gM_11 E hK hP dX16_seesRead_65 ?_
      refine lv_bipush hx hb dX16_seesRead_68 bp_12 ?_
      refine lv_dup2_11 hx hb dX16_seesRead_70 rfl rfl ?_
      obtain ⟨v19, hv19, hf⟩ := bdP hf
      refine p_iald hx hb hK hP dM_611 sgM_seesRead_raI611 hv19 dX16_seesRead_71 ?_
      refine lv_iconst hx hb dX16_seesRead_72 ic_1 ?_
      refine lv_iadd hx hb dX16_seesRead_73 ?_
      obtain ⟨a20, ha20, hf⟩ := bdP hf
      refine p_iast hx hb hK hP hS (hA _ (PA_c dM_611)) dM_611 sgM_seesRead_raI611 ha20 sgM_seesRead_aI611 dX16_seesRead_74 (fun H locs hP hS => ?_)
      refine lv_iconst hx hb dX16_seesRead_75 ic_1 ?_
      cases hf
      rw [hQ]; exact p_zret hx hb hr hlk hK hP hS rfl dX16_seesRead_76
    · have hf := ifF c12 hf
      refine lv_iconst hx hb dX16_seesRead_27 ic_0 ?_
      cases hf
      rw [hQ]; exact p_zret hx hb hr hlk hK hP hS rfl dX16_seesRead_28
  · have hf := ifT c2 hf
    refine lv_aload_n hx hb dX16_seesRead_12 rfl (lv_at hl 0 rfl) ?_
    refine lv_iconst hx hb dX16_seesRead_13 ic_2 ?_
    obtain ⟨⟨v21, z22, z23⟩, u24, hf⟩ := bdP hf
    dsimp only at hf
    refine cM_wrong E hK hP hS hA sgM_seesRead_rzI504 sgM_seesRead_rzI505 sgM_seesRead_rzI510 u24 ⟨Nat.le_of_ble_eq_true rfl, Nat.le_of_ble_eq_true rfl⟩ ⟨Nat.zero_le _, Nat.zero_le _⟩ hl.1 (Nat.le_of_ble_eq_true rfl) dX16_seesRead_14 (fun H locs hP hS => ?_)
    rw [sgM_seesRead_zI504, sgM_seesRead_zI505] at hP
    obtain ⟨v25, hv25, hf⟩ := bdP hf
    obtain ⟨hv25a, hv25b⟩ := retZ_some hv25
    subst hv25a
    cases hf
    rw [hQ]; exact p_zret hx hb hr hlk hK hP hS hv25b dX16_seesRead_17
theorem kM_seesRead (l : Launch) (D : va_G) (G : Nat → ClassId) (ad : Nat → Nat) (σ : Sto) {r_ : Int32} {w_zI504 : Int32} {w_zI505 : Int32} {w_zI507 : Int32} {w_zI508 : Int32} {w_zI509 : Int32} {w_zI510 : Int32} {w_zI519 : Int32} {w_aI611 : Nat → Int32} {w_aI617 : Nat → Int32} (hf : mo_seesRead (σ.1 504) (σ.1 505) (σ.1 506) (σ.1 507) (σ.1 508) (σ.1 509) (σ.1 510) (σ.1 519) (σ.2.2.1 600) (σ.2.2.1 603) (σ.2.2.1 611) (σ.2.2.1 612) (σ.2.2.1 615) (σ.2.2.1 617) = some (r_, w_zI504, w_zI505, w_zI507, w_zI508, w_zI509, w_zI510, w_zI519, w_aI611, w_aI617)) : CtI l D clsA G dscM ad yX16_seesRead (ws_ yX16_seesRead cX16_seesRead 3 (Option.some Jvm.ClassFile.FieldType.boolean)) rmM_seesRead [.ref (ad 500)] σ r_ (sgM_seesRead σ w_zI504 w_zI505 w_zI507 w_zI508 w_zI509 w_zI510 w_zI519 w_aI611 w_aI617) :=
  p_ctI (by decide +kernel) (Nat.le_of_ble_eq_true rfl) (fun p e s m below meth c0 ls A E hP hK hA hS hl => wkM_seesRead E hK hA hf rfl hP hS hl)
theorem cM_seesRead (E : EN p s m args meth c0 RX16 cc nL ret) (hK : KK D clsA G s) (hP : PM D G ad σ H) (hS : va_S A s.heap H locs) (hA : ∀ q, PA dscM ad s.heap.size q → A q) {r_ : Int32} {w_zI504 : Int32} {w_zI505 : Int32} {w_zI507 : Int32} {w_zI508 : Int32} {w_zI509 : Int32} {w_zI510 : Int32} {w_zI519 : Int32} {w_aI611 : Nat → Int32} {w_aI617 : Nat → Int32} {z_fault : Int32} (e_zI504 : σ.1 504 = z_fault) {z_faultPlace : Int32} (e_zI505 : σ.1 505 = z_faultPlace) {z_stop : Int32} (e_zI506 : σ.1 506 = z_stop) {z_next : Int32} (e_zI507 : σ.1 507 = z_next) {z_kind : Int32} (e_zI508 : σ.1 508 = z_kind) {z_which : Int32} (e_zI509 : σ.1 509 = z_which) {z_at : Int32} (e_zI510 : σ.1 510 = z_at) {z_spot : Int32} (e_zI519 : σ.1 519 = z_spot) {a_tape : Nat → Int32} (e_aI600 : σ.2.2.1 600 = a_tape) {a_words : Nat → Int32} (e_aI603 : σ.2.2.1 603 = a_words) {a_many : Nat → Int32} (e_aI611 : σ.2.2.1 611 = a_many) {a_placeName : Nat → Int32} (e_aI612 : σ.2.2.1 612 = a_placeName) {a_road : Nat → Int32} (e_aI615 : σ.2.2.1 615 = a_road) {a_sight : Nat → Int32} (e_aI617 : σ.2.2.1 617 = a_sight) (hu : mo_seesRead z_fault z_faultPlace z_stop z_next z_kind z_which z_at z_spot a_tape a_words a_many a_placeName a_road a_sight = some (r_, w_zI504, w_zI505, w_zI507, w_zI508, w_zI509, w_zI510, w_zI519, w_aI611, w_aI617)) (hR : rmM_seesRead.frames + 1 ≤ R.frames ∧ 8 + (3 + 11) + rmM_seesRead.locals ≤ R.locals) (hcs : cells ≤ R.cells ∧ slots ≤ R.slots) (hsz : ls.size = nL) (hW : (rest.map fun v => v.category).sum ≤ 8) (hdg : decode cc pc = .ok (.invokevirtual 222, 3)) (kk : ∀ (H1 : Heap) (locs1 : List Loc), PM D G ad (aI (aI (zI (zI (zI (zI (zI (zI (zI σ 504 w_zI504) 505 w_zI505) 507 w_zI507) 508 w_zI508) 509 w_zI509) 510 w_zI510) 519 w_zI519) 611 w_aI611) 617 w_aI617) H1 → va_S A s.heap H1 locs1 → W p l e R s m args below meth c0 H1 locs1 cells slots Q (F0 m (pc + 3) ls (.int r_ :: rest))) : W p l e R s m args below meth c0 H locs cells slots Q (F0 m pc ls (.ref (ad 500) :: rest)) := by
  subst e_zI504
  subst e_zI505
  subst e_zI506
  subst e_zI507
  subst e_zI508
  subst e_zI509
  subst e_zI510
  subst e_zI519
  subst e_aI600
  subst e_aI603
  subst e_aI611
  subst e_aI612
  subst e_aI615
  subst e_aI617
  exact p_callI (As := []) (rest := rest) E.1 hK hP hS hA (kM_seesRead l D G ad σ hu) (cwV 0 E.1.2.2.2.2 (lw_V q1942 q1944 qs71 q142 q1945) rfl rfl rfl (by decide +kernel) hR) dM_500 rfl rfl rfl hsz rfl hW hdg hcs kk
/-! lineRead()Z -/
def sgM_lineRead (σ : Sto) (w0 : Int32) (w1 : Int32) (w2 : Int32) (w3 : Int32) (w4 : Int32) (w5 : Int32) (w6 : Int32) (w7 : Nat → Int32) (w8 : Nat → Int32) (w9 : Nat → Int32) (w10 : Nat → Int32) (w11 : Nat → Int32) (w12 : Nat → Int32) (w13 : Nat → Int32) (w14 : Nat → Int32) : Sto := aI (aI (aI (aI (aI (aI (aI (aI (zI (zI (zI (zI (zI (zI (zI σ 504 w0) 505 w1) 507 w2) 508 w3) 509 w4) 510 w5) 519 w6) 611 w7) 612 w8) 613 w9) 614 w10) 615 w11) 616 w12) 617 w13) 618 w14
theorem sgM_lineRead_self (σ : Sto) : sgM_lineRead σ (σ.1 504) (σ.1 505) (σ.1 507) (σ.1 508) (σ.1 509) (σ.1 510) (σ.1 519) (σ.2.2.1 611) (σ.2.2.1 612) (σ.2.2.1 613) (σ.2.2.1 614) (σ.2.2.1 615) (σ.2.2.1 616) (σ.2.2.1 617) (σ.2.2.1 618) = σ := by
  unfold sgM_lineRead
  simp only [zI_self, zL_self, aI_self, aL_self]
theorem sgM_lineRead_zI504 {σ : Sto} {w0 : Int32} {w1 : Int32} {w2 : Int32} {w3 : Int32} {w4 : Int32} {w5 : Int32} {w6 : Int32} {w7 : Nat → Int32} {w8 : Nat → Int32} {w9 : Nat → Int32} {w10 : Nat → Int32} {w11 : Nat → Int32} {w12 : Nat → Int32} {w13 : Nat → Int32} {w14 : Nat → Int32} {g : Int32} : zI (sgM_lineRead σ w0 w1 w2 w3 w4 w5 w6 w7 w8 w9 w10 w11 w12 w13 w14) 504 g = sgM_lineRead σ g w1 w2 w3 w4 w5 w6 w7 w8 w9 w10 w11 w12 w13 w14 := (cm_zI_aI _ _ _ _ _).trans (congrArg (fun z => aI z 618 w14) ((cm_zI_aI _ _ _ _ _).trans (congrArg (fun z => aI z 617 w13) ((cm_zI_aI _ _ _ _ _).trans (congrArg (fun z => aI z 616 w12) ((cm_zI_aI _ _ _ _ _).trans (congrArg (fun z => aI z 615 w11) ((cm_zI_aI _ _ _ _ _).trans (congrArg (fun z => aI z 614 w10) ((cm_zI_aI _ _ _ _ _).trans (congrArg (fun z => aI z 613 w9) ((cm_zI_aI _ _ _ _ _).trans (congrArg (fun z => aI z 612 w8) ((cm_zI_aI _ _ _ _ _).trans (congrArg (fun z => aI z 611 w7) ((zI_comm _ (by decide) _ _).trans (congrArg (fun z => zI z 519 w6) ((zI_comm _ (by decide) _ _).trans (congrArg (fun z => zI z 510 w5) ((zI_comm _ (by decide) _ _).trans (congrArg (fun z => zI z 509 w4) ((zI_comm _ (by decide) _ _).trans (congrArg (fun z => zI z 508 w3) ((zI_comm _ (by decide) _ _).trans (congrArg (fun z => zI z 507 w2) ((zI_comm _ (by decide) _ _).trans (congrArg (fun z => zI z 505 w1) (zI_zI _ 504 _ _))))))))))))))))))))))))))))
theorem sgM_lineRead_zI505 {σ : Sto} {w0 : Int32} {w1 : Int32} {w2 : Int32} {w3 : Int32} {w4 : Int32} {w5 : Int32} {w6 : Int32} {w7 : Nat → Int32} {w8 : Nat → Int32} {w9 : Nat → Int32} {w10 : Nat → Int32} {w11 : Nat → Int32} {w12 : Nat → Int32} {w13 : Nat → Int32} {w14 : Nat → Int32} {g : Int32} : zI (sgM_lineRead σ w0 w1 w2 w3 w4 w5 w6 w7 w8 w9 w10 w11 w12 w13 w14) 505 g = sgM_lineRead σ w0 g w2 w3 w4 w5 w6 w7 w8 w9 w10 w11 w12 w13 w14 := (cm_zI_aI _ _ _ _ _).trans (congrArg (fun z => aI z 618 w14) ((cm_zI_aI _ _ _ _ _).trans (congrArg (fun z => aI z 617 w13) ((cm_zI_aI _ _ _ _ _).trans (congrArg (fun z => aI z 616 w12) ((cm_zI_aI _ _ _ _ _).trans (congrArg (fun z => aI z 615 w11) ((cm_zI_aI _ _ _ _ _).trans (congrArg (fun z => aI z 614 w10) ((cm_zI_aI _ _ _ _ _).trans (congrArg (fun z => aI z 613 w9) ((cm_zI_aI _ _ _ _ _).trans (congrArg (fun z => aI z 612 w8) ((cm_zI_aI _ _ _ _ _).trans (congrArg (fun z => aI z 611 w7) ((zI_comm _ (by decide) _ _).trans (congrArg (fun z => zI z 519 w6) ((zI_comm _ (by decide) _ _).trans (congrArg (fun z => zI z 510 w5) ((zI_comm _ (by decide) _ _).trans (congrArg (fun z => zI z 509 w4) ((zI_comm _ (by decide) _ _).trans (congrArg (fun z => zI z 508 w3) ((zI_comm _ (by decide) _ _).trans (congrArg (fun z => zI z 507 w2) (zI_zI _ 505 _ _))))))))))))))))))))))))))
theorem sgM_lineRead_zI507 {σ : Sto} {w0 : Int32} {w1 : Int32} {w2 : Int32} {w3 : Int32} {w4 : Int32} {w5 : Int32} {w6 : Int32} {w7 : Nat → Int32} {w8 : Nat → Int32} {w9 : Nat → Int32} {w10 : Nat → Int32} {w11 : Nat → Int32} {w12 : Nat → Int32} {w13 : Nat → Int32} {w14 : Nat → Int32} {g : Int32} : zI (sgM_lineRead σ w0 w1 w2 w3 w4 w5 w6 w7 w8 w9 w10 w11 w12 w13 w14) 507 g = sgM_lineRead σ w0 w1 g w3 w4 w5 w6 w7 w8 w9 w10 w11 w12 w13 w14 := (cm_zI_aI _ _ _ _ _).trans (congrArg (fun z => aI z 618 w14) ((cm_zI_aI _ _ _ _ _).trans (congrArg (fun z => aI z 617 w13) ((cm_zI_aI _ _ _ _ _).trans (congrArg (fun z => aI z 616 w12) ((cm_zI_aI _ _ _ _ _).trans (congrArg (fun z => aI z 615 w11) ((cm_zI_aI _ _ _ _ _).trans (congrArg (fun z => aI z 614 w10) ((cm_zI_aI _ _ _ _ _).trans (congrArg (fun z => aI z 613 w9) ((cm_zI_aI _ _ _ _ _).trans (congrArg (fun z => aI z 612 w8) ((cm_zI_aI _ _ _ _ _).trans (congrArg (fun z => aI z 611 w7) ((zI_comm _ (by decide) _ _).trans (congrArg (fun z => zI z 519 w6) ((zI_comm _ (by decide) _ _).trans (congrArg (fun z => zI z 510 w5) ((zI_comm _ (by decide) _ _).trans (congrArg (fun z => zI z 509 w4) ((zI_comm _ (by decide) _ _).trans (congrArg (fun z => zI z 508 w3) (zI_zI _ 507 _ _))))))))))))))))))))))))
theorem sgM_lineRead_zI508 {σ : Sto} {w0 : Int32} {w1 : Int32} {w2 : Int32} {w3 : Int32} {w4 : Int32} {w5 : Int32} {w6 : Int32} {w7 : Nat → Int32} {w8 : Nat → Int32} {w9 : Nat → Int32} {w10 : Nat → Int32} {w11 : Nat → Int32} {w12 : Nat → Int32} {w13 : Nat → Int32} {w14 : Nat → Int32} {g : Int32} : zI (sgM_lineRead σ w0 w1 w2 w3 w4 w5 w6 w7 w8 w9 w10 w11 w12 w13 w14) 508 g = sgM_lineRead σ w0 w1 w2 g w4 w5 w6 w7 w8 w9 w10 w11 w12 w13 w14 := (cm_zI_aI _ _ _ _ _).trans (congrArg (fun z => aI z 618 w14) ((cm_zI_aI _ _ _ _ _).trans (congrArg (fun z => aI z 617 w13) ((cm_zI_aI _ _ _ _ _).trans (congrArg (fun z => aI z 616 w12) ((cm_zI_aI _ _ _ _ _).trans (congrArg (fun z => aI z 615 w11) ((cm_zI_aI _ _ _ _ _).trans (congrArg (fun z => aI z 614 w10) ((cm_zI_aI _ _ _ _ _).trans (congrArg (fun z => aI z 613 w9) ((cm_zI_aI _ _ _ _ _).trans (congrArg (fun z => aI z 612 w8) ((cm_zI_aI _ _ _ _ _).trans (congrArg (fun z => aI z 611 w7) ((zI_comm _ (by decide) _ _).trans (congrArg (fun z => zI z 519 w6) ((zI_comm _ (by decide) _ _).trans (congrArg (fun z => zI z 510 w5) ((zI_comm _ (by decide) _ _).trans (congrArg (fun z => zI z 509 w4) (zI_zI _ 508 _ _))))))))))))))))))))))
theorem sgM_lineRead_zI509 {σ : Sto} {w0 : Int32} {w1 : Int32} {w2 : Int32} {w3 : Int32} {w4 : Int32} {w5 : Int32} {w6 : Int32} {w7 : Nat → Int32} {w8 : Nat → Int32} {w9 : Nat → Int32} {w10 : Nat → Int32} {w11 : Nat → Int32} {w12 : Nat → Int32} {w13 : Nat → Int32} {w14 : Nat → Int32} {g : Int32} : zI (sgM_lineRead σ w0 w1 w2 w3 w4 w5 w6 w7 w8 w9 w10 w11 w12 w13 w14) 509 g = sgM_lineRead σ w0 w1 w2 w3 g w5 w6 w7 w8 w9 w10 w11 w12 w13 w14 := (cm_zI_aI _ _ _ _ _).trans (congrArg (fun z => aI z 618 w14) ((cm_zI_aI _ _ _ _ _).trans (congrArg (fun z => aI z 617 w13) ((cm_zI_aI _ _ _ _ _).trans (congrArg (fun z => aI z 616 w12) ((cm_zI_aI _ _ _ _ _).trans (congrArg (fun z => aI z 615 w11) ((cm_zI_aI _ _ _ _ _).trans (congrArg (fun z => aI z 614 w10) ((cm_zI_aI _ _ _ _ _).trans (congrArg (fun z => aI z 613 w9) ((cm_zI_aI _ _ _ _ _).trans (congrArg (fun z => aI z 612 w8) ((cm_zI_aI _ _ _ _ _).trans (congrArg (fun z => aI z 611 w7) ((zI_comm _ (by decide) _ _).trans (congrArg (fun z => zI z 519 w6) ((zI_comm _ (by decide) _ _).trans (congrArg (fun z => zI z 510 w5) (zI_zI _ 509 _ _))))))))))))))))))))
theorem sgM_lineRead_zI510 {σ : Sto} {w0 : Int32} {w1 : Int32} {w2 : Int32} {w3 : Int32} {w4 : Int32} {w5 : Int32} {w6 : Int32} {w7 : Nat → Int32} {w8 : Nat → Int32} {w9 : Nat → Int32} {w10 : Nat → Int32} {w11 : Nat → Int32} {w12 : Nat → Int32} {w13 : Nat → Int32} {w14 : Nat → Int32} {g : Int32} : zI (sgM_lineRead σ w0 w1 w2 w3 w4 w5 w6 w7 w8 w9 w10 w11 w12 w13 w14) 510 g = sgM_lineRead σ w0 w1 w2 w3 w4 g w6 w7 w8 w9 w10 w11 w12 w13 w14 := (cm_zI_aI _ _ _ _ _).trans (congrArg (fun z => aI z 618 w14) ((cm_zI_aI _ _ _ _ _).trans (congrArg (fun z => aI z 617 w13) ((cm_zI_aI _ _ _ _ _).trans (congrArg (fun z => aI z 616 w12) ((cm_zI_aI _ _ _ _ _).trans (congrArg (fun z => aI z 615 w11) ((cm_zI_aI _ _ _ _ _).trans (congrArg (fun z => aI z 614 w10) ((cm_zI_aI _ _ _ _ _).trans (congrArg (fun z => aI z 613 w9) ((cm_zI_aI _ _ _ _ _).trans (congrArg (fun z => aI z 612 w8) ((cm_zI_aI _ _ _ _ _).trans (congrArg (fun z => aI z 611 w7) ((zI_comm _ (by decide) _ _).trans (congrArg (fun z => zI z 519 w6) (zI_zI _ 510 _ _))))))))))))))))))
theorem sgM_lineRead_zI519 {σ : Sto} {w0 : Int32} {w1 : Int32} {w2 : Int32} {w3 : Int32} {w4 : Int32} {w5 : Int32} {w6 : Int32} {w7 : Nat → Int32} {w8 : Nat → Int32} {w9 : Nat → Int32} {w10 : Nat → Int32} {w11 : Nat → Int32} {w12 : Nat → Int32} {w13 : Nat → Int32} {w14 : Nat → Int32} {g : Int32} : zI (sgM_lineRead σ w0 w1 w2 w3 w4 w5 w6 w7 w8 w9 w10 w11 w12 w13 w14) 519 g = sgM_lineRead σ w0 w1 w2 w3 w4 w5 g w7 w8 w9 w10 w11 w12 w13 w14 := (cm_zI_aI _ _ _ _ _).trans (congrArg (fun z => aI z 618 w14) ((cm_zI_aI _ _ _ _ _).trans (congrArg (fun z => aI z 617 w13) ((cm_zI_aI _ _ _ _ _).trans (congrArg (fun z => aI z 616 w12) ((cm_zI_aI _ _ _ _ _).trans (congrArg (fun z => aI z 615 w11) ((cm_zI_aI _ _ _ _ _).trans (congrArg (fun z => aI z 614 w10) ((cm_zI_aI _ _ _ _ _).trans (congrArg (fun z => aI z 613 w9) ((cm_zI_aI _ _ _ _ _).trans (congrArg (fun z => aI z 612 w8) ((cm_zI_aI _ _ _ _ _).trans (congrArg (fun z => aI z 611 w7) (zI_zI _ 519 _ _))))))))))))))))
theorem sgM_lineRead_aI611 {σ : Sto} {w0 : Int32} {w1 : Int32} {w2 : Int32} {w3 : Int32} {w4 : Int32} {w5 : Int32} {w6 : Int32} {w7 : Nat → Int32} {w8 : Nat → Int32} {w9 : Nat → Int32} {w10 : Nat → Int32} {w11 : Nat → Int32} {w12 : Nat → Int32} {w13 : Nat → Int32} {w14 : Nat → Int32} {g : Nat → Int32} : aI (sgM_lineRead σ w0 w1 w2 w3 w4 w5 w6 w7 w8 w9 w10 w11 w12 w13 w14) 611 g = sgM_lineRead σ w0 w1 w2 w3 w4 w5 w6 g w8 w9 w10 w11 w12 w13 w14 := (aI_comm _ (by decide) _ _).trans (congrArg (fun z => aI z 618 w14) ((aI_comm _ (by decide) _ _).trans (congrArg (fun z => aI z 617 w13) ((aI_comm _ (by decide) _ _).trans (congrArg (fun z => aI z 616 w12) ((aI_comm _ (by decide) _ _).trans (congrArg (fun z => aI z 615 w11) ((aI_comm _ (by decide) _ _).trans (congrArg (fun z => aI z 614 w10) ((aI_comm _ (by decide) _ _).trans (congrArg (fun z => aI z 613 w9) ((aI_comm _ (by decide) _ _).trans (congrArg (fun z => aI z 612 w8) (aI_aI _ 611 _ _))))))))))))))
theorem sgM_lineRead_aI612 {σ : Sto} {w0 : Int32} {w1 : Int32} {w2 : Int32} {w3 : Int32} {w4 : Int32} {w5 : Int32} {w6 : Int32} {w7 : Nat → Int32} {w8 : Nat → Int32} {w9 : Nat → Int32} {w10 : Nat → Int32} {w11 : Nat → Int32} {w12 : Nat → Int32} {w13 : Nat → Int32} {w14 : Nat → Int32} {g : Nat → Int32} : aI (sgM_lineRead σ w0 w1 w2 w3 w4 w5 w6 w7 w8 w9 w10 w11 w12 w13 w14) 612 g = sgM_lineRead σ w0 w1 w2 w3 w4 w5 w6 w7 g w9 w10 w11 w12 w13 w14 := (aI_comm _ (by decide) _ _).trans (congrArg (fun z => aI z 618 w14) ((aI_comm _ (by decide) _ _).trans (congrArg (fun z => aI z 617 w13) ((aI_comm _ (by decide) _ _).trans (congrArg (fun z => aI z 616 w12) ((aI_comm _ (by decide) _ _).trans (congrArg (fun z => aI z 615 w11) ((aI_comm _ (by decide) _ _).trans (congrArg (fun z => aI z 614 w10) ((aI_comm _ (by decide) _ _).trans (congrArg (fun z => aI z 613 w9) (aI_aI _ 612 _ _))))))))))))
theorem sgM_lineRead_aI613 {σ : Sto} {w0 : Int32} {w1 : Int32} {w2 : Int32} {w3 : Int32} {w4 : Int32} {w5 : Int32} {w6 : Int32} {w7 : Nat → Int32} {w8 : Nat → Int32} {w9 : Nat → Int32} {w10 : Nat → Int32} {w11 : Nat → Int32} {w12 : Nat → Int32} {w13 : Nat → Int32} {w14 : Nat → Int32} {g : Nat → Int32} : aI (sgM_lineRead σ w0 w1 w2 w3 w4 w5 w6 w7 w8 w9 w10 w11 w12 w13 w14) 613 g = sgM_lineRead σ w0 w1 w2 w3 w4 w5 w6 w7 w8 g w10 w11 w12 w13 w14 := (aI_comm _ (by decide) _ _).trans (congrArg (fun z => aI z 618 w14) ((aI_comm _ (by decide) _ _).trans (congrArg (fun z => aI z 617 w13) ((aI_comm _ (by decide) _ _).trans (congrArg (fun z => aI z 616 w12) ((aI_comm _ (by decide) _ _).trans (congrArg (fun z => aI z 615 w11) ((aI_comm _ (by decide) _ _).trans (congrArg (fun z => aI z 614 w10) (aI_aI _ 613 _ _))))))))))
theorem sgM_lineRead_aI614 {σ : Sto} {w0 : Int32} {w1 : Int32} {w2 : Int32} {w3 : Int32} {w4 : Int32} {w5 : Int32} {w6 : Int32} {w7 : Nat → Int32} {w8 : Nat → Int32} {w9 : Nat → Int32} {w10 : Nat → Int32} {w11 : Nat → Int32} {w12 : Nat → Int32} {w13 : Nat → Int32} {w14 : Nat → Int32} {g : Nat → Int32} : aI (sgM_lineRead σ w0 w1 w2 w3 w4 w5 w6 w7 w8 w9 w10 w11 w12 w13 w14) 614 g = sgM_lineRead σ w0 w1 w2 w3 w4 w5 w6 w7 w8 w9 g w11 w12 w13 w14 := (aI_comm _ (by decide) _ _).trans (congrArg (fun z => aI z 618 w14) ((aI_comm _ (by decide) _ _).trans (congrArg (fun z => aI z 617 w13) ((aI_comm _ (by decide) _ _).trans (congrArg (fun z => aI z 616 w12) ((aI_comm _ (by decide) _ _).trans (congrArg (fun z => aI z 615 w11) (aI_aI _ 614 _ _))))))))
theorem sgM_lineRead_aI615 {σ : Sto} {w0 : Int32} {w1 : Int32} {w2 : Int32} {w3 : Int32} {w4 : Int32} {w5 : Int32} {w6 : Int32} {w7 : Nat → Int32} {w8 : Nat → Int32} {w9 : Nat → Int32} {w10 : Nat → Int32} {w11 : Nat → Int32} {w12 : Nat → Int32} {w13 : Nat → Int32} {w14 : Nat → Int32} {g : Nat → Int32} : aI (sgM_lineRead σ w0 w1 w2 w3 w4 w5 w6 w7 w8 w9 w10 w11 w12 w13 w14) 615 g = sgM_lineRead σ w0 w1 w2 w3 w4 w5 w6 w7 w8 w9 w10 g w12 w13 w14 := (aI_comm _ (by decide) _ _).trans (congrArg (fun z => aI z 618 w14) ((aI_comm _ (by decide) _ _).trans (congrArg (fun z => aI z 617 w13) ((aI_comm _ (by decide) _ _).trans (congrArg (fun z => aI z 616 w12) (aI_aI _ 615 _ _))))))
theorem sgM_lineRead_aI616 {σ : Sto} {w0 : Int32} {w1 : Int32} {w2 : Int32} {w3 : Int32} {w4 : Int32} {w5 : Int32} {w6 : Int32} {w7 : Nat → Int32} {w8 : Nat → Int32} {w9 : Nat → Int32} {w10 : Nat → Int32} {w11 : Nat → Int32} {w12 : Nat → Int32} {w13 : Nat → Int32} {w14 : Nat → Int32} {g : Nat → Int32} : aI (sgM_lineRead σ w0 w1 w2 w3 w4 w5 w6 w7 w8 w9 w10 w11 w12 w13 w14) 616 g = sgM_lineRead σ w0 w1 w2 w3 w4 w5 w6 w7 w8 w9 w10 w11 g w13 w14 := (aI_comm _ (by decide) _ _).trans (congrArg (fun z => aI z 618 w14) ((aI_comm _ (by decide) _ _).trans (congrArg (fun z => aI z 617 w13) (aI_aI _ 616 _ _))))
theorem sgM_lineRead_aI617 {σ : Sto} {w0 : Int32} {w1 : Int32} {w2 : Int32} {w3 : Int32} {w4 : Int32} {w5 : Int32} {w6 : Int32} {w7 : Nat → Int32} {w8 : Nat → Int32} {w9 : Nat → Int32} {w10 : Nat → Int32} {w11 : Nat → Int32} {w12 : Nat → Int32} {w13 : Nat → Int32} {w14 : Nat → Int32} {g : Nat → Int32} : aI (sgM_lineRead σ w0 w1 w2 w3 w4 w5 w6 w7 w8 w9 w10 w11 w12 w13 w14) 617 g = sgM_lineRead σ w0 w1 w2 w3 w4 w5 w6 w7 w8 w9 w10 w11 w12 g w14 := (aI_comm _ (by decide) _ _).trans (congrArg (fun z => aI z 618 w14) (aI_aI _ 617 _ _))
theorem sgM_lineRead_aI618 {σ : Sto} {w0 : Int32} {w1 : Int32} {w2 : Int32} {w3 : Int32} {w4 : Int32} {w5 : Int32} {w6 : Int32} {w7 : Nat → Int32} {w8 : Nat → Int32} {w9 : Nat → Int32} {w10 : Nat → Int32} {w11 : Nat → Int32} {w12 : Nat → Int32} {w13 : Nat → Int32} {w14 : Nat → Int32} {g : Nat → Int32} : aI (sgM_lineRead σ w0 w1 w2 w3 w4 w5 w6 w7 w8 w9 w10 w11 w12 w13 w14) 618 g = sgM_lineRead σ w0 w1 w2 w3 w4 w5 w6 w7 w8 w9 w10 w11 w12 w13 g := aI_aI _ 618 _ _
theorem sgM_lineRead_rzI504 {σ : Sto} {w0 : Int32} {w1 : Int32} {w2 : Int32} {w3 : Int32} {w4 : Int32} {w5 : Int32} {w6 : Int32} {w7 : Nat → Int32} {w8 : Nat → Int32} {w9 : Nat → Int32} {w10 : Nat → Int32} {w11 : Nat → Int32} {w12 : Nat → Int32} {w13 : Nat → Int32} {w14 : Nat → Int32} : (sgM_lineRead σ w0 w1 w2 w3 w4 w5 w6 w7 w8 w9 w10 w11 w12 w13 w14).1 504 = w0 := rfl
theorem sgM_lineRead_rzI505 {σ : Sto} {w0 : Int32} {w1 : Int32} {w2 : Int32} {w3 : Int32} {w4 : Int32} {w5 : Int32} {w6 : Int32} {w7 : Nat → Int32} {w8 : Nat → Int32} {w9 : Nat → Int32} {w10 : Nat → Int32} {w11 : Nat → Int32} {w12 : Nat → Int32} {w13 : Nat → Int32} {w14 : Nat → Int32} : (sgM_lineRead σ w0 w1 w2 w3 w4 w5 w6 w7 w8 w9 w10 w11 w12 w13 w14).1 505 = w1 := rfl
theorem sgM_lineRead_rzI506 {σ : Sto} {w0 : Int32} {w1 : Int32} {w2 : Int32} {w3 : Int32} {w4 : Int32} {w5 : Int32} {w6 : Int32} {w7 : Nat → Int32} {w8 : Nat → Int32} {w9 : Nat → Int32} {w10 : Nat → Int32} {w11 : Nat → Int32} {w12 : Nat → Int32} {w13 : Nat → Int32} {w14 : Nat → Int32} : (sgM_lineRead σ w0 w1 w2 w3 w4 w5 w6 w7 w8 w9 w10 w11 w12 w13 w14).1 506 = σ.1 506 := rfl
theorem sgM_lineRead_rzI507 {σ : Sto} {w0 : Int32} {w1 : Int32} {w2 : Int32} {w3 : Int32} {w4 : Int32} {w5 : Int32} {w6 : Int32} {w7 : Nat → Int32} {w8 : Nat → Int32} {w9 : Nat → Int32} {w10 : Nat → Int32} {w11 : Nat → Int32} {w12 : Nat → Int32} {w13 : Nat → Int32} {w14 : Nat → Int32} : (sgM_lineRead σ w0 w1 w2 w3 w4 w5 w6 w7 w8 w9 w10 w11 w12 w13 w14).1 507 = w2 := rfl
theorem sgM_lineRead_rzI508 {σ : Sto} {w0 : Int32} {w1 : Int32} {w2 : Int32} {w3 : Int32} {w4 : Int32} {w5 : Int32} {w6 : Int32} {w7 : Nat → Int32} {w8 : Nat → Int32} {w9 : Nat → Int32} {w10 : Nat → Int32} {w11 : Nat → Int32} {w12 : Nat → Int32} {w13 : Nat → Int32} {w14 : Nat → Int32} : (sgM_lineRead σ w0 w1 w2 w3 w4 w5 w6 w7 w8 w9 w10 w11 w12 w13 w14).1 508 = w3 := rfl
theorem sgM_lineRead_rzI509 {σ : Sto} {w0 : Int32} {w1 : Int32} {w2 : Int32} {w3 : Int32} {w4 : Int32} {w5 : Int32} {w6 : Int32} {w7 : Nat → Int32} {w8 : Nat → Int32} {w9 : Nat → Int32} {w10 : Nat → Int32} {w11 : Nat → Int32} {w12 : Nat → Int32} {w13 : Nat → Int32} {w14 : Nat → Int32} : (sgM_lineRead σ w0 w1 w2 w3 w4 w5 w6 w7 w8 w9 w10 w11 w12 w13 w14).1 509 = w4 := rfl
theorem sgM_lineRead_rzI510 {σ : Sto} {w0 : Int32} {w1 : Int32} {w2 : Int32} {w3 : Int32} {w4 : Int32} {w5 : Int32} {w6 : Int32} {w7 : Nat → Int32} {w8 : Nat → Int32} {w9 : Nat → Int32} {w10 : Nat → Int32} {w11 : Nat → Int32} {w12 : Nat → Int32} {w13 : Nat → Int32} {w14 : Nat → Int32} : (sgM_lineRead σ w0 w1 w2 w3 w4 w5 w6 w7 w8 w9 w10 w11 w12 w13 w14).1 510 = w5 := rfl
theorem sgM_lineRead_rzI519 {σ : Sto} {w0 : Int32} {w1 : Int32} {w2 : Int32} {w3 : Int32} {w4 : Int32} {w5 : Int32} {w6 : Int32} {w7 : Nat → Int32} {w8 : Nat → Int32} {w9 : Nat → Int32} {w10 : Nat → Int32} {w11 : Nat → Int32} {w12 : Nat → Int32} {w13 : Nat → Int32} {w14 : Nat → Int32} : (sgM_lineRead σ w0 w1 w2 w3 w4 w5 w6 w7 w8 w9 w10 w11 w12 w13 w14).1 519 = w6 := rfl
theorem sgM_lineRead_raI600 {σ : Sto} {w0 : Int32} {w1 : Int32} {w2 : Int32} {w3 : Int32} {w4 : Int32} {w5 : Int32} {w6 : Int32} {w7 : Nat → Int32} {w8 : Nat → Int32} {w9 : Nat → Int32} {w10 : Nat → Int32} {w11 : Nat → Int32} {w12 : Nat → Int32} {w13 : Nat → Int32} {w14 : Nat → Int32} : (sgM_lineRead σ w0 w1 w2 w3 w4 w5 w6 w7 w8 w9 w10 w11 w12 w13 w14).2.2.1 600 = σ.2.2.1 600 := rfl
theorem sgM_lineRead_raI603 {σ : Sto} {w0 : Int32} {w1 : Int32} {w2 : Int32} {w3 : Int32} {w4 : Int32} {w5 : Int32} {w6 : Int32} {w7 : Nat → Int32} {w8 : Nat → Int32} {w9 : Nat → Int32} {w10 : Nat → Int32} {w11 : Nat → Int32} {w12 : Nat → Int32} {w13 : Nat → Int32} {w14 : Nat → Int32} : (sgM_lineRead σ w0 w1 w2 w3 w4 w5 w6 w7 w8 w9 w10 w11 w12 w13 w14).2.2.1 603 = σ.2.2.1 603 := rfl
theorem sgM_lineRead_raI611 {σ : Sto} {w0 : Int32} {w1 : Int32} {w2 : Int32} {w3 : Int32} {w4 : Int32} {w5 : Int32} {w6 : Int32} {w7 : Nat → Int32} {w8 : Nat → Int32} {w9 : Nat → Int32} {w10 : Nat → Int32} {w11 : Nat → Int32} {w12 : Nat → Int32} {w13 : Nat → Int32} {w14 : Nat → Int32} : (sgM_lineRead σ w0 w1 w2 w3 w4 w5 w6 w7 w8 w9 w10 w11 w12 w13 w14).2.2.1 611 = w7 := rfl
theorem sgM_lineRead_raI612 {σ : Sto} {w0 : Int32} {w1 : Int32} {w2 : Int32} {w3 : Int32} {w4 : Int32} {w5 : Int32} {w6 : Int32} {w7 : Nat → Int32} {w8 : Nat → Int32} {w9 : Nat → Int32} {w10 : Nat → Int32} {w11 : Nat → Int32} {w12 : Nat → Int32} {w13 : Nat → Int32} {w14 : Nat → Int32} : (sgM_lineRead σ w0 w1 w2 w3 w4 w5 w6 w7 w8 w9 w10 w11 w12 w13 w14).2.2.1 612 = w8 := rfl
theorem sgM_lineRead_raI613 {σ : Sto} {w0 : Int32} {w1 : Int32} {w2 : Int32} {w3 : Int32} {w4 : Int32} {w5 : Int32} {w6 : Int32} {w7 : Nat → Int32} {w8 : Nat → Int32} {w9 : Nat → Int32} {w10 : Nat → Int32} {w11 : Nat → Int32} {w12 : Nat → Int32} {w13 : Nat → Int32} {w14 : Nat → Int32} : (sgM_lineRead σ w0 w1 w2 w3 w4 w5 w6 w7 w8 w9 w10 w11 w12 w13 w14).2.2.1 613 = w9 := rfl
theorem sgM_lineRead_raI614 {σ : Sto} {w0 : Int32} {w1 : Int32} {w2 : Int32} {w3 : Int32} {w4 : Int32} {w5 : Int32} {w6 : Int32} {w7 : Nat → Int32} {w8 : Nat → Int32} {w9 : Nat → Int32} {w10 : Nat → Int32} {w11 : Nat → Int32} {w12 : Nat → Int32} {w13 : Nat → Int32} {w14 : Nat → Int32} : (sgM_lineRead σ w0 w1 w2 w3 w4 w5 w6 w7 w8 w9 w10 w11 w12 w13 w14).2.2.1 614 = w10 := rfl
theorem sgM_lineRead_raI615 {σ : Sto} {w0 : Int32} {w1 : Int32} {w2 : Int32} {w3 : Int32} {w4 : Int32} {w5 : Int32} {w6 : Int32} {w7 : Nat → Int32} {w8 : Nat → Int32} {w9 : Nat → Int32} {w10 : Nat → Int32} {w11 : Nat → Int32} {w12 : Nat → Int32} {w13 : Nat → Int32} {w14 : Nat → Int32} : (sgM_lineRead σ w0 w1 w2 w3 w4 w5 w6 w7 w8 w9 w10 w11 w12 w13 w14).2.2.1 615 = w11 := rfl
theorem sgM_lineRead_raI616 {σ : Sto} {w0 : Int32} {w1 : Int32} {w2 : Int32} {w3 : Int32} {w4 : Int32} {w5 : Int32} {w6 : Int32} {w7 : Nat → Int32} {w8 : Nat → Int32} {w9 : Nat → Int32} {w10 : Nat → Int32} {w11 : Nat → Int32} {w12 : Nat → Int32} {w13 : Nat → Int32} {w14 : Nat → Int32} : (sgM_lineRead σ w0 w1 w2 w3 w4 w5 w6 w7 w8 w9 w10 w11 w12 w13 w14).2.2.1 616 = w12 := rfl
theorem sgM_lineRead_raI617 {σ : Sto} {w0 : Int32} {w1 : Int32} {w2 : Int32} {w3 : Int32} {w4 : Int32} {w5 : Int32} {w6 : Int32} {w7 : Nat → Int32} {w8 : Nat → Int32} {w9 : Nat → Int32} {w10 : Nat → Int32} {w11 : Nat → Int32} {w12 : Nat → Int32} {w13 : Nat → Int32} {w14 : Nat → Int32} : (sgM_lineRead σ w0 w1 w2 w3 w4 w5 w6 w7 w8 w9 w10 w11 w12 w13 w14).2.2.1 617 = w13 := rfl
theorem sgM_lineRead_raI618 {σ : Sto} {w0 : Int32} {w1 : Int32} {w2 : Int32} {w3 : Int32} {w4 : Int32} {w5 : Int32} {w6 : Int32} {w7 : Nat → Int32} {w8 : Nat → Int32} {w9 : Nat → Int32} {w10 : Nat → Int32} {w11 : Nat → Int32} {w12 : Nat → Int32} {w13 : Nat → Int32} {w14 : Nat → Int32} : (sgM_lineRead σ w0 w1 w2 w3 w4 w5 w6 w7 w8 w9 w10 w11 w12 w13 w14).2.2.1 618 = w14 := rfl
abbrev rmM_lineRead : Room := { frames := 4, cells := 0, slots := 0, locals := 93 }
set_option maxHeartbeats 4000000 in
theorem wkM_lineRead  {r_ : Int32} {w_zI504 : Int32} {w_zI505 : Int32} {w_zI507 : Int32} {w_zI508 : Int32} {w_zI509 : Int32} {w_zI510 : Int32} {w_zI519 : Int32} {w_aI611 : Nat → Int32} {w_aI612 : Nat → Int32} {w_aI613 : Nat → Int32} {w_aI614 : Nat → Int32} {w_aI615 : Nat → Int32} {w_aI616 : Nat → Int32} {w_aI617 : Nat → Int32} {w_aI618 : Nat → Int32} (E : EN p s m args meth c0 RX16 cX16_lineRead 2 (Option.some Jvm.ClassFile.FieldType.boolean)) (hK : KK D clsA G s) (hA : ∀ q, PA dscM ad s.heap.size q → A q) (hf : mo_lineRead (σ.1 504) (σ.1 505) (σ.1 506) (σ.1 507) (σ.1 508) (σ.1 509) (σ.1 510) (σ.1 519) (σ.2.2.1 600) (σ.2.2.1 603) (σ.2.2.1 611) (σ.2.2.1 612) (σ.2.2.1 613) (σ.2.2.1 614) (σ.2.2.1 615) (σ.2.2.1 616) (σ.2.2.1 617) (σ.2.2.1 618) = some (r_, w_zI504, w_zI505, w_zI507, w_zI508, w_zI509, w_zI510, w_zI519, w_aI611, w_aI612, w_aI613, w_aI614, w_aI615, w_aI616, w_aI617, w_aI618)) (hQ : Q = MQ below (va_Qi (fun x (_ : Unit) => x = r_) (fun _ t => PM D G ad (sgM_lineRead σ w_zI504 w_zI505 w_zI507 w_zI508 w_zI509 w_zI510 w_zI519 w_aI611 w_aI612 w_aI613 w_aI614 w_aI615 w_aI616 w_aI617 w_aI618) t.heap ∧ KK D clsA G t) A) args s 0 0 A) (hP : PM D G ad σ H) (hS : va_S A s.heap H locs) (hl : lv_has ls 2 [(0, .ref (ad 500))]) : W p l e rmM_lineRead s m args below meth c0 H locs 0 0 Q (F0 m 0 ls []) := by
  obtain ⟨⟨hx, hb, hml, hown, hts⟩, hr, hlk⟩ := id E
  have hP := hP.to (sgM_lineRead_self σ).symm
  unfold mo_lineRead at hf
  refine lv_aload_n hx hb dX16_lineRead_0 rfl (lv_at hl 0 rfl) ?_
  refine gM_8 (v := (σ.1 508)) E hK hP sgM_lineRead_rzI508 dX16_lineRead_1 ?_
  refine lv_iconst hx hb dX16_lineRead_4 ic_1 ?_
  have J24 : mo_lineRead_J24 (σ.1 504) (σ.1 505) (σ.1 507) (σ.1 508) (σ.1 509) (σ.1 510) (σ.1 519) (σ.2.2.1 611) (σ.2.2.1 612) (σ.2.2.1 613) (σ.2.2.1 614) (σ.2.2.1 615) (σ.2.2.1 616) (σ.2.2.1 617) (σ.2.2.1 618) = some (r_, w_zI504, w_zI505, w_zI507, w_zI508, w_zI509, w_zI510, w_zI519, w_aI611, w_aI612, w_aI613, w_aI614, w_aI615, w_aI616, w_aI617, w_aI618) → ∀ (H : Heap) (locs : List Loc), PM D G ad (sgM_lineRead σ (σ.1 504) (σ.1 505) (σ.1 507) (σ.1 508) (σ.1 509) (σ.1 510) (σ.1 519) (σ.2.2.1 611) (σ.2.2.1 612) (σ.2.2.1 613) (σ.2.2.1 614) (σ.2.2.1 615) (σ.2.2.1 616) (σ.2.2.1 617) (σ.2.2.1 618)) H → va_S A s.heap H locs → ∀ (ls : Array Slot), lv_has ls 2 [(0, .ref (ad 500))] → W p l e rmM_lineRead s m args below meth c0 H locs 0 0 Q (F0 m 24 ls []) := by
    intro  hf H locs hP hS ls hl
    unfold mo_lineRead_J24 at hf
    refine lv_aload_n hx hb dX16_lineRead_24 rfl (lv_at hl 0 rfl) ?_
    refine lv_iconst hx hb dX16_lineRead_25 ic_1 ?_
    obtain ⟨⟨v1, z2, z3⟩, u4, hf⟩ := bdP hf
    dsimp only at hf
    refine cM_wrong E hK hP hS hA sgM_lineRead_rzI504 sgM_lineRead_rzI505 sgM_lineRead_rzI510 u4 ⟨Nat.le_of_ble_eq_true rfl, Nat.le_of_ble_eq_true rfl⟩ ⟨Nat.zero_le _, Nat.zero_le _⟩ hl.1 (Nat.le_of_ble_eq_true rfl) dX16_lineRead_26 (fun H locs hP hS => ?_)
    rw [sgM_lineRead_zI504, sgM_lineRead_zI505] at hP
    obtain ⟨v5, hv5, hf⟩ := bdP hf
    obtain ⟨hv5a, hv5b⟩ := retZ_some hv5
    subst hv5a
    cases hf
    rw [hQ]; exact p_zret hx hb hr hlk hK hP hS hv5b dX16_lineRead_29
  refine lv_icmp_ne (tgt := 24) hx hb dX16_lineRead_5 (by decide) (fun c6 => ?_) (fun c6 => ?_)
  · have hf := ifF c6 hf
    exact J24  hf H locs hP hS ls (lv_sub hl [0] rfl)
  · have hf := ifT c6 hf
    refine lv_aload_n hx hb dX16_lineRead_8 rfl (lv_at hl 0 rfl) ?_
    refine gM_9 (v := (σ.1 509)) E hK hP sgM_lineRead_rzI509 dX16_lineRead_9 ?_
    refine lv_iconst hx hb dX16_lineRead_12 ic_3 ?_
    have J30 : mo_lineRead_J30 (σ.1 504) (σ.1 505) (σ.1 506) (σ.1 507) (σ.1 508) (σ.1 509) (σ.1 510) (σ.1 519) (σ.2.2.1 600) (σ.2.2.1 603) (σ.2.2.1 611) (σ.2.2.1 612) (σ.2.2.1 613) (σ.2.2.1 614) (σ.2.2.1 615) (σ.2.2.1 616) (σ.2.2.1 617) (σ.2.2.1 618) = some (r_, w_zI504, w_zI505, w_zI507, w_zI508, w_zI509, w_zI510, w_zI519, w_aI611, w_aI612, w_aI613, w_aI614, w_aI615, w_aI616, w_aI617, w_aI618) → ∀ (H : Heap) (locs : List Loc), PM D G ad (sgM_lineRead σ (σ.1 504) (σ.1 505) (σ.1 507) (σ.1 508) (σ.1 509) (σ.1 510) (σ.1 519) (σ.2.2.1 611) (σ.2.2.1 612) (σ.2.2.1 613) (σ.2.2.1 614) (σ.2.2.1 615) (σ.2.2.1 616) (σ.2.2.1 617) (σ.2.2.1 618)) H → va_S A s.heap H locs → ∀ (ls : Array Slot), lv_has ls 2 [(0, .ref (ad 500))] → W p l e rmM_lineRead s m args below meth c0 H locs 0 0 Q (F0 m 30 ls []) := by
      intro  hf H locs hP hS ls hl
      unfold mo_lineRead_J30 at hf
      refine lv_aload_n hx hb dX16_lineRead_30 rfl (lv_at hl 0 rfl) ?_
      refine gM_9 (v := (σ.1 509)) E hK hP sgM_lineRead_rzI509 dX16_lineRead_31 ?_
      have J132 : ∀ (y7 : Int32) (z8 : Int32) (z9 : Int32) (z10 : Int32) (z11 : Int32) (z12 : Int32) (z13 : Int32) (z14 : Int32) (a15 : Nat → Int32) (a16 : Nat → Int32) (a17 : Nat → Int32) (a18 : Nat → Int32) (a19 : Nat → Int32) (a20 : Nat → Int32) (a21 : Nat → Int32) (a22 : Nat → Int32), mo_lineRead_J132 (σ.1 506) (σ.2.2.1 600) (σ.2.2.1 603) y7 z8 z9 z10 z11 z12 z13 z14 a15 a16 a17 a18 a19 a20 a21 a22 = some (r_, w_zI504, w_zI505, w_zI507, w_zI508, w_zI509, w_zI510, w_zI519, w_aI611, w_aI612, w_aI613, w_aI614, w_aI615, w_aI616, w_aI617, w_aI618) → ∀ (H : Heap) (locs : List Loc), PM D G ad (sgM_lineRead σ z8 z9 z10 z11 z12 z13 z14 a15 a16 a17 a18 a19 a20 a21 a22) H → va_S A s.heap H locs → ∀ (ls : Array Slot), lv_has ls 2 [(0, .ref (ad 500)), (1, .int y7)] → W p l e rmM_lineRead s m args below meth c0 H locs 0 0 Q (F0 m 132 ls []) := by
        intro y7 z8 z9 z10 z11 z12 z13 z14 a15 a16 a17 a18 a19 a20 a21 a22 hf H locs hP hS ls hl
        unfold mo_lineRead_J132 at hf
        refine lv_iload_n hx hb dX16_lineRead_132 rfl (lv_at hl 1 rfl) ?_
        refine lv_if_ne (tgt := 138) hx hb dX16_lineRead_133 (by decide) (fun c23 => ?_) (fun c23 => ?_)
        · have hf := ifF c23 hf
          refine lv_aload_n hx hb dX16_lineRead_138 rfl (lv_at hl 0 rfl) ?_
          refine gM_8 (v := z11) E hK hP sgM_lineRead_rzI508 dX16_lineRead_139 ?_
          refine lv_iconst hx hb dX16_lineRead_142 ic_4 ?_
          refine lv_icmp_eq (tgt := 152) hx hb dX16_lineRead_143 (by decide) (fun c24 => ?_) (fun c24 => ?_)
          · have hf := ifT c24 hf
            refine lv_aload_n hx hb dX16_lineRead_152 rfl (lv_at hl 0 rfl) ?_
            obtain ⟨⟨z25, z26, z27, z28⟩, u29, hf⟩ := bdP hf
            dsimp only at hf
            refine cM_take E hK hP hS hA sgM_lineRead_rzI506 sgM_lineRead_rzI507 sgM_lineRead_rzI508 sgM_lineRead_rzI509 sgM_lineRead_rzI510 sgM_lineRead_raI600 sgM_lineRead_raI603 u29 ⟨Nat.le_of_ble_eq_true rfl, Nat.le_of_ble_eq_true rfl⟩ ⟨Nat.zero_le _, Nat.zero_le _⟩ hl.1 (Nat.le_of_ble_eq_true rfl) dX16_lineRead_153 (fun H locs hP hS => ?_)
            rw [sgM_lineRead_zI507, sgM_lineRead_zI508, sgM_lineRead_zI509, sgM_lineRead_zI510] at hP
            refine lv_iconst hx hb dX16_lineRead_156 ic_1 ?_
            cases hf
            rw [hQ]; exact p_zret hx hb hr hlk hK hP hS rfl dX16_lineRead_157
          · have hf := ifF c24 hf
            refine lv_aload_n hx hb dX16_lineRead_146 rfl (lv_at hl 0 rfl) ?_
            refine lv_iconst hx hb dX16_lineRead_147 ic_1 ?_
            obtain ⟨⟨v30, z31, z32⟩, u33, hf⟩ := bdP hf
            dsimp only at hf
            refine cM_wrong E hK hP hS hA sgM_lineRead_rzI504 sgM_lineRead_rzI505 sgM_lineRead_rzI510 u33 ⟨Nat.le_of_ble_eq_true rfl, Nat.le_of_ble_eq_true rfl⟩ ⟨Nat.zero_le _, Nat.zero_le _⟩ hl.1 (Nat.le_of_ble_eq_true rfl) dX16_lineRead_148 (fun H locs hP hS => ?_)
            rw [sgM_lineRead_zI504, sgM_lineRead_zI505] at hP
            obtain ⟨v34, hv34, hf⟩ := bdP hf
            obtain ⟨hv34a, hv34b⟩ := retZ_some hv34
            subst hv34a
            cases hf
            rw [hQ]; exact p_zret hx hb hr hlk hK hP hS hv34b dX16_lineRead_151
        · have hf := ifT c23 hf
          refine lv_iconst hx hb dX16_lineRead_136 ic_0 ?_
          cases hf
          rw [hQ]; exact p_zret hx hb hr hlk hK hP hS rfl dX16_lineRead_137
      have J120 : mo_lineRead_J120 (σ.1 504) (σ.1 505) (σ.1 506) (σ.1 507) (σ.1 508) (σ.1 509) (σ.1 510) (σ.1 519) (σ.2.2.1 600) (σ.2.2.1 603) (σ.2.2.1 611) (σ.2.2.1 612) (σ.2.2.1 613) (σ.2.2.1 614) (σ.2.2.1 615) (σ.2.2.1 616) (σ.2.2.1 617) (σ.2.2.1 618) = some (r_, w_zI504, w_zI505, w_zI507, w_zI508, w_zI509, w_zI510, w_zI519, w_aI611, w_aI612, w_aI613, w_aI614, w_aI615, w_aI616, w_aI617, w_aI618) → ∀ (H : Heap) (locs : List Loc), PM D G ad (sgM_lineRead σ (σ.1 504) (σ.1 505) (σ.1 507) (σ.1 508) (σ.1 509) (σ.1 510) (σ.1 519) (σ.2.2.1 611) (σ.2.2.1 612) (σ.2.2.1 613) (σ.2.2.1 614) (σ.2.2.1 615) (σ.2.2.1 616) (σ.2.2.1 617) (σ.2.2.1 618)) H → va_S A s.heap H locs → ∀ (ls : Array Slot), lv_has ls 2 [(0, .ref (ad 500))] → W p l e rmM_lineRead s m args below meth c0 H locs 0 0 Q (F0 m 120 ls []) := by
        intro  hf H locs hP hS ls hl
        unfold mo_lineRead_J120 at hf
        refine lv_aload_n hx hb dX16_lineRead_120 rfl (lv_at hl 0 rfl) ?_
        refine lv_aload_n hx hb dX16_lineRead_121 rfl (lv_at hl 0 rfl) ?_
        refine gM_9 (v := (σ.1 509)) E hK hP sgM_lineRead_rzI509 dX16_lineRead_122 ?_
        refine lv_bipush hx hb dX16_lineRead_125 bp_8 ?_
        refine lv_isub hx hb dX16_lineRead_127 ?_
        obtain ⟨⟨v35, z36, z37, z38, z39, z40, z41, z42, a43⟩, u44, hf⟩ := bdP hf
        dsimp only at hf
        refine cM_endRead E hK hP hS hA sgM_lineRead_rzI504 sgM_lineRead_rzI505 sgM_lineRead_rzI506 sgM_lineRead_rzI507 sgM_lineRead_rzI508 sgM_lineRead_rzI509 sgM_lineRead_rzI510 sgM_lineRead_rzI519 sgM_lineRead_raI600 sgM_lineRead_raI603 sgM_lineRead_raI611 sgM_lineRead_raI612 u44 ⟨Nat.le_of_ble_eq_true rfl, Nat.le_of_ble_eq_true rfl⟩ ⟨Nat.zero_le _, Nat.zero_le _⟩ hl.1 (Nat.le_of_ble_eq_true rfl) dX16_lineRead_128 (fun H locs hP hS => ?_)
        rw [sgM_lineRead_zI504, sgM_lineRead_zI505, sgM_lineRead_zI507, sgM_lineRead_zI508, sgM_lineRead_zI509, sgM_lineRead_zI510, sgM_lineRead_zI519, sgM_lineRead_aI611] at hP
        refine lv_istore_n (lv' := [(1, .int v35), (0, .ref (ad 500))]) hx hb dX16_lineRead_131 rfl hl (by decide) rfl (fun ls hl => ?_)
        exact J132 v35 z36 z37 z38 z39 z40 z41 z42 a43 (σ.2.2.1 612) (σ.2.2.1 613) (σ.2.2.1 614) (σ.2.2.1 615) (σ.2.2.1 616) (σ.2.2.1 617) (σ.2.2.1 618) hf H locs hP hS ls (lv_sub hl [1, 0] rfl)
      by_cases c45 : (σ.1 509) = 0
      · have hf := ifT c45 hf
        refine lv_tableIn (tgt := 80) (off := 46) hx hb dX16_lineRead_34 (by rw [c45]; decide) (by rw [c45]; decide) (by rw [c45]; decide) (by decide) ?_
        refine lv_aload_n hx hb dX16_lineRead_80 rfl (lv_at hl 0 rfl) ?_
        obtain ⟨⟨v46, z47, z48, z49, z50, z51, z52, a53, a54⟩, u55, hf⟩ := bdP hf
        dsimp only at hf
        refine cM_placesRead E hK hP hS hA sgM_lineRead_rzI504 sgM_lineRead_rzI505 sgM_lineRead_rzI506 sgM_lineRead_rzI507 sgM_lineRead_rzI508 sgM_lineRead_rzI509 sgM_lineRead_rzI510 sgM_lineRead_raI600 sgM_lineRead_raI603 sgM_lineRead_raI611 sgM_lineRead_raI612 u55 ⟨Nat.le_of_ble_eq_true rfl, Nat.le_of_ble_eq_true rfl⟩ ⟨Nat.zero_le _, Nat.zero_le _⟩ hl.1 (Nat.le_of_ble_eq_true rfl) dX16_lineRead_81 (fun H locs hP hS => ?_)
        rw [sgM_lineRead_zI504, sgM_lineRead_zI505, sgM_lineRead_zI507, sgM_lineRead_zI508, sgM_lineRead_zI509, sgM_lineRead_zI510, sgM_lineRead_aI611, sgM_lineRead_aI612] at hP
        refine lv_istore_n (lv' := [(1, .int v46), (0, .ref (ad 500))]) hx hb dX16_lineRead_84 rfl hl (by decide) rfl (fun ls hl => ?_)
        refine lv_goto (tgt := 132) hx hb dX16_lineRead_85 (by decide) ?_
        exact J132 v46 z47 z48 z49 z50 z51 z52 (σ.1 519) a53 a54 (σ.2.2.1 613) (σ.2.2.1 614) (σ.2.2.1 615) (σ.2.2.1 616) (σ.2.2.1 617) (σ.2.2.1 618) hf H locs hP hS ls (lv_sub hl [1, 0] rfl)
      have hf := ifF c45 hf
      by_cases c56 : (σ.1 509) = 1
      · have hf := ifT c56 hf
        refine lv_tableIn (tgt := 88) (off := 54) hx hb dX16_lineRead_34 (by rw [c56]; decide) (by rw [c56]; decide) (by rw [c56]; decide) (by decide) ?_
        refine lv_aload_n hx hb dX16_lineRead_88 rfl (lv_at hl 0 rfl) ?_
        obtain ⟨⟨v57, z58, z59, z60, z61, z62, z63, a64, a65, a66⟩, u67, hf⟩ := bdP hf
        dsimp only at hf
        refine cM_causeRead E hK hP hS hA sgM_lineRead_rzI504 sgM_lineRead_rzI505 sgM_lineRead_rzI506 sgM_lineRead_rzI507 sgM_lineRead_rzI508 sgM_lineRead_rzI509 sgM_lineRead_rzI510 sgM_lineRead_raI600 sgM_lineRead_raI603 sgM_lineRead_raI611 sgM_lineRead_raI613 sgM_lineRead_raI614 u67 ⟨Nat.le_of_ble_eq_true rfl, Nat.le_of_ble_eq_true rfl⟩ ⟨Nat.zero_le _, Nat.zero_le _⟩ hl.1 (Nat.le_of_ble_eq_true rfl) dX16_lineRead_89 (fun H locs hP hS => ?_)
        rw [sgM_lineRead_zI504, sgM_lineRead_zI505, sgM_lineRead_zI507, sgM_lineRead_zI508, sgM_lineRead_zI509, sgM_lineRead_zI510, sgM_lineRead_aI611, sgM_lineRead_aI613, sgM_lineRead_aI614] at hP
        refine lv_istore_n (lv' := [(1, .int v57), (0, .ref (ad 500))]) hx hb dX16_lineRead_92 rfl hl (by decide) rfl (fun ls hl => ?_)
        refine lv_goto (tgt := 132) hx hb dX16_lineRead_93 (by decide) ?_
        exact J132 v57 z58 z59 z60 z61 z62 z63 (σ.1 519) a64 (σ.2.2.1 612) a65 a66 (σ.2.2.1 615) (σ.2.2.1 616) (σ.2.2.1 617) (σ.2.2.1 618) hf H locs hP hS ls (lv_sub hl [1, 0] rfl)
      have hf := ifF c56 hf
      by_cases c68 : (σ.1 509) = 2
      · have hf := ifT c68 hf
        refine lv_tableIn (tgt := 96) (off := 62) hx hb dX16_lineRead_34 (by rw [c68]; decide) (by rw [c68]; decide) (by rw [c68]; decide) (by decide) ?_
        refine lv_aload_n hx hb dX16_lineRead_96 rfl (lv_at hl 0 rfl) ?_
        obtain ⟨⟨v69, z70, z71, z72, z73, z74, z75, z76, a77, a78, a79⟩, u80, hf⟩ := bdP hf
        dsimp only at hf
        refine cM_roadRead E hK hP hS hA sgM_lineRead_rzI504 sgM_lineRead_rzI505 sgM_lineRead_rzI506 sgM_lineRead_rzI507 sgM_lineRead_rzI508 sgM_lineRead_rzI509 sgM_lineRead_rzI510 sgM_lineRead_rzI519 sgM_lineRead_raI600 sgM_lineRead_raI603 sgM_lineRead_raI611 sgM_lineRead_raI612 sgM_lineRead_raI613 sgM_lineRead_raI615 sgM_lineRead_raI616 u80 ⟨Nat.le_of_ble_eq_true rfl, Nat.le_of_ble_eq_true rfl⟩ ⟨Nat.zero_le _, Nat.zero_le _⟩ hl.1 (Nat.le_of_ble_eq_true rfl) dX16_lineRead_97 (fun H locs hP hS => ?_)
        rw [sgM_lineRead_zI504, sgM_lineRead_zI505, sgM_lineRead_zI507, sgM_lineRead_zI508, sgM_lineRead_zI509, sgM_lineRead_zI510, sgM_lineRead_zI519, sgM_lineRead_aI611, sgM_lineRead_aI615, sgM_lineRead_aI616] at hP
        refine lv_istore_n (lv' := [(1, .int v69), (0, .ref (ad 500))]) hx hb dX16_lineRead_100 rfl hl (by decide) rfl (fun ls hl => ?_)
        refine lv_goto (tgt := 132) hx hb dX16_lineRead_101 (by decide) ?_
        exact J132 v69 z70 z71 z72 z73 z74 z75 z76 a77 (σ.2.2.1 612) (σ.2.2.1 613) (σ.2.2.1 614) a78 a79 (σ.2.2.1 617) (σ.2.2.1 618) hf H locs hP hS ls (lv_sub hl [1, 0] rfl)
      have hf := ifF c68 hf
      by_cases c81 : (σ.1 509) = 3
      · have hf := ifT c81 hf
        refine lv_tableIn (tgt := 120) (off := 86) hx hb dX16_lineRead_34 (by rw [c81]; decide) (by rw [c81]; decide) (by rw [c81]; decide) (by decide) ?_
        exact J120  hf H locs hP hS ls (lv_sub hl [0] rfl)
      have hf := ifF c81 hf
      by_cases c82 : (σ.1 509) = 4
      · have hf := ifT c82 hf
        refine lv_tableIn (tgt := 120) (off := 86) hx hb dX16_lineRead_34 (by rw [c82]; decide) (by rw [c82]; decide) (by rw [c82]; decide) (by decide) ?_
        exact J120  hf H locs hP hS ls (lv_sub hl [0] rfl)
      have hf := ifF c82 hf
      by_cases c83 : (σ.1 509) = 5
      · have hf := ifT c83 hf
        refine lv_tableIn (tgt := 120) (off := 86) hx hb dX16_lineRead_34 (by rw [c83]; decide) (by rw [c83]; decide) (by rw [c83]; decide) (by decide) ?_
        exact J120  hf H locs hP hS ls (lv_sub hl [0] rfl)
      have hf := ifF c83 hf
      by_cases c84 : (σ.1 509) = 6
      · have hf := ifT c84 hf
        refine lv_tableIn (tgt := 104) (off := 70) hx hb dX16_lineRead_34 (by rw [c84]; decide) (by rw [c84]; decide) (by rw [c84]; decide) (by decide) ?_
        refine lv_aload_n hx hb dX16_lineRead_104 rfl (lv_at hl 0 rfl) ?_
        obtain ⟨⟨v85, z86, z87, z88, z89, z90, z91, z92, a93, a94⟩, u95, hf⟩ := bdP hf
        dsimp only at hf
        refine cM_seesRead E hK hP hS hA sgM_lineRead_rzI504 sgM_lineRead_rzI505 sgM_lineRead_rzI506 sgM_lineRead_rzI507 sgM_lineRead_rzI508 sgM_lineRead_rzI509 sgM_lineRead_rzI510 sgM_lineRead_rzI519 sgM_lineRead_raI600 sgM_lineRead_raI603 sgM_lineRead_raI611 sgM_lineRead_raI612 sgM_lineRead_raI615 sgM_lineRead_raI617 u95 ⟨Nat.le_of_ble_eq_true rfl, Nat.le_of_ble_eq_true rfl⟩ ⟨Nat.zero_le _, Nat.zero_le _⟩ hl.1 (Nat.le_of_ble_eq_true rfl) dX16_lineRead_105 (fun H locs hP hS => ?_)
        rw [sgM_lineRead_zI504, sgM_lineRead_zI505, sgM_lineRead_zI507, sgM_lineRead_zI508, sgM_lineRead_zI509, sgM_lineRead_zI510, sgM_lineRead_zI519, sgM_lineRead_aI611, sgM_lineRead_aI617] at hP
        refine lv_istore_n (lv' := [(1, .int v85), (0, .ref (ad 500))]) hx hb dX16_lineRead_108 rfl hl (by decide) rfl (fun ls hl => ?_)
        refine lv_goto (tgt := 132) hx hb dX16_lineRead_109 (by decide) ?_
        exact J132 v85 z86 z87 z88 z89 z90 z91 z92 a93 (σ.2.2.1 612) (σ.2.2.1 613) (σ.2.2.1 614) (σ.2.2.1 615) (σ.2.2.1 616) a94 (σ.2.2.1 618) hf H locs hP hS ls (lv_sub hl [1, 0] rfl)
      have hf := ifF c84 hf
      by_cases c96 : (σ.1 509) = 7
      · have hf := ifT c96 hf
        refine lv_tableIn (tgt := 112) (off := 78) hx hb dX16_lineRead_34 (by rw [c96]; decide) (by rw [c96]; decide) (by rw [c96]; decide) (by decide) ?_
        refine lv_aload_n hx hb dX16_lineRead_112 rfl (lv_at hl 0 rfl) ?_
        obtain ⟨⟨v97, z98, z99, z100, z101, z102, z103, z104, a105, a106⟩, u107, hf⟩ := bdP hf
        dsimp only at hf
        refine cM_innRead E hK hP hS hA sgM_lineRead_rzI504 sgM_lineRead_rzI505 sgM_lineRead_rzI506 sgM_lineRead_rzI507 sgM_lineRead_rzI508 sgM_lineRead_rzI509 sgM_lineRead_rzI510 sgM_lineRead_rzI519 sgM_lineRead_raI600 sgM_lineRead_raI603 sgM_lineRead_raI611 sgM_lineRead_raI612 sgM_lineRead_raI615 sgM_lineRead_raI618 u107 ⟨Nat.le_of_ble_eq_true rfl, Nat.le_of_ble_eq_true rfl⟩ ⟨Nat.zero_le _, Nat.zero_le _⟩ hl.1 (Nat.le_of_ble_eq_true rfl) dX16_lineRead_113 (fun H locs hP hS => ?_)
        rw [sgM_lineRead_zI504, sgM_lineRead_zI505, sgM_lineRead_zI507, sgM_lineRead_zI508, sgM_lineRead_zI509, sgM_lineRead_zI510, sgM_lineRead_zI519, sgM_lineRead_aI611, sgM_lineRead_aI618] at hP
        refine lv_istore_n (lv' := [(1, .int v97), (0, .ref (ad 500))]) hx hb dX16_lineRead_116 rfl hl (by decide) rfl (fun ls hl => ?_)
        refine lv_goto (tgt := 132) hx hb dX16_lineRead_117 (by decide) ?_
        exact J132 v97 z98 z99 z100 z101 z102 z103 z104 a105 (σ.2.2.1 612) (σ.2.2.1 613) (σ.2.2.1 614) (σ.2.2.1 615) (σ.2.2.1 616) (σ.2.2.1 617) a106 hf H locs hP hS ls (lv_sub hl [1, 0] rfl)
      have hf := ifF c96 hf
      refine lv_tableOut (tgt := 120) hx hb dX16_lineRead_34 (sw_out8 c45 c56 c68 c81 c82 c83 c84 c96) (by decide) ?_
      exact J120  hf H locs hP hS ls (lv_sub hl [0] rfl)
    refine lv_icmp_lt (tgt := 30) hx hb dX16_lineRead_13 (by decide) (fun c108 => ?_) (fun c108 => ?_)
    · have hf := ifT c108 hf
      exact J30  hf H locs hP hS ls (lv_sub hl [0] rfl)
    · have hf := ifF c108 hf
      refine lv_aload_n hx hb dX16_lineRead_16 rfl (lv_at hl 0 rfl) ?_
      refine gM_9 (v := (σ.1 509)) E hK hP sgM_lineRead_rzI509 dX16_lineRead_17 ?_
      refine lv_iconst hx hb dX16_lineRead_20 ic_5 ?_
      refine lv_icmp_gt (tgt := 30) hx hb dX16_lineRead_21 (by decide) (fun c109 => ?_) (fun c109 => ?_)
      · have hf := ifT c109 hf
        exact J30  hf H locs hP hS ls (lv_sub hl [0] rfl)
      · have hf := ifF c109 hf
        exact J24  hf H locs hP hS ls (lv_sub hl [0] rfl)
theorem kM_lineRead (l : Launch) (D : va_G) (G : Nat → ClassId) (ad : Nat → Nat) (σ : Sto) {r_ : Int32} {w_zI504 : Int32} {w_zI505 : Int32} {w_zI507 : Int32} {w_zI508 : Int32} {w_zI509 : Int32} {w_zI510 : Int32} {w_zI519 : Int32} {w_aI611 : Nat → Int32} {w_aI612 : Nat → Int32} {w_aI613 : Nat → Int32} {w_aI614 : Nat → Int32} {w_aI615 : Nat → Int32} {w_aI616 : Nat → Int32} {w_aI617 : Nat → Int32} {w_aI618 : Nat → Int32} (hf : mo_lineRead (σ.1 504) (σ.1 505) (σ.1 506) (σ.1 507) (σ.1 508) (σ.1 509) (σ.1 510) (σ.1 519) (σ.2.2.1 600) (σ.2.2.1 603) (σ.2.2.1 611) (σ.2.2.1 612) (σ.2.2.1 613) (σ.2.2.1 614) (σ.2.2.1 615) (σ.2.2.1 616) (σ.2.2.1 617) (σ.2.2.1 618) = some (r_, w_zI504, w_zI505, w_zI507, w_zI508, w_zI509, w_zI510, w_zI519, w_aI611, w_aI612, w_aI613, w_aI614, w_aI615, w_aI616, w_aI617, w_aI618)) : CtI l D clsA G dscM ad yX16_lineRead (ws_ yX16_lineRead cX16_lineRead 2 (Option.some Jvm.ClassFile.FieldType.boolean)) rmM_lineRead [.ref (ad 500)] σ r_ (sgM_lineRead σ w_zI504 w_zI505 w_zI507 w_zI508 w_zI509 w_zI510 w_zI519 w_aI611 w_aI612 w_aI613 w_aI614 w_aI615 w_aI616 w_aI617 w_aI618) :=
  p_ctI (by decide +kernel) (Nat.le_of_ble_eq_true rfl) (fun p e s m below meth c0 ls A E hP hK hA hS hl => wkM_lineRead E hK hA hf rfl hP hS hl)
theorem cM_lineRead (E : EN p s m args meth c0 RX16 cc nL ret) (hK : KK D clsA G s) (hP : PM D G ad σ H) (hS : va_S A s.heap H locs) (hA : ∀ q, PA dscM ad s.heap.size q → A q) {r_ : Int32} {w_zI504 : Int32} {w_zI505 : Int32} {w_zI507 : Int32} {w_zI508 : Int32} {w_zI509 : Int32} {w_zI510 : Int32} {w_zI519 : Int32} {w_aI611 : Nat → Int32} {w_aI612 : Nat → Int32} {w_aI613 : Nat → Int32} {w_aI614 : Nat → Int32} {w_aI615 : Nat → Int32} {w_aI616 : Nat → Int32} {w_aI617 : Nat → Int32} {w_aI618 : Nat → Int32} {z_fault : Int32} (e_zI504 : σ.1 504 = z_fault) {z_faultPlace : Int32} (e_zI505 : σ.1 505 = z_faultPlace) {z_stop : Int32} (e_zI506 : σ.1 506 = z_stop) {z_next : Int32} (e_zI507 : σ.1 507 = z_next) {z_kind : Int32} (e_zI508 : σ.1 508 = z_kind) {z_which : Int32} (e_zI509 : σ.1 509 = z_which) {z_at : Int32} (e_zI510 : σ.1 510 = z_at) {z_spot : Int32} (e_zI519 : σ.1 519 = z_spot) {a_tape : Nat → Int32} (e_aI600 : σ.2.2.1 600 = a_tape) {a_words : Nat → Int32} (e_aI603 : σ.2.2.1 603 = a_words) {a_many : Nat → Int32} (e_aI611 : σ.2.2.1 611 = a_many) {a_placeName : Nat → Int32} (e_aI612 : σ.2.2.1 612 = a_placeName) {a_causeName : Nat → Int32} (e_aI613 : σ.2.2.1 613 = a_causeName) {a_causeOf10 : Nat → Int32} (e_aI614 : σ.2.2.1 614 = a_causeOf10) {a_road : Nat → Int32} (e_aI615 : σ.2.2.1 615 = a_road) {a_doubtful : Nat → Int32} (e_aI616 : σ.2.2.1 616 = a_doubtful) {a_sight : Nat → Int32} (e_aI617 : σ.2.2.1 617 = a_sight) {a_word : Nat → Int32} (e_aI618 : σ.2.2.1 618 = a_word) (hu : mo_lineRead z_fault z_faultPlace z_stop z_next z_kind z_which z_at z_spot a_tape a_words a_many a_placeName a_causeName a_causeOf10 a_road a_doubtful a_sight a_word = some (r_, w_zI504, w_zI505, w_zI507, w_zI508, w_zI509, w_zI510, w_zI519, w_aI611, w_aI612, w_aI613, w_aI614, w_aI615, w_aI616, w_aI617, w_aI618)) (hR : rmM_lineRead.frames + 1 ≤ R.frames ∧ 8 + (2 + 11) + rmM_lineRead.locals ≤ R.locals) (hcs : cells ≤ R.cells ∧ slots ≤ R.slots) (hsz : ls.size = nL) (hW : (rest.map fun v => v.category).sum ≤ 8) (hdg : decode cc pc = .ok (.invokevirtual 231, 3)) (kk : ∀ (H1 : Heap) (locs1 : List Loc), PM D G ad (aI (aI (aI (aI (aI (aI (aI (aI (zI (zI (zI (zI (zI (zI (zI σ 504 w_zI504) 505 w_zI505) 507 w_zI507) 508 w_zI508) 509 w_zI509) 510 w_zI510) 519 w_zI519) 611 w_aI611) 612 w_aI612) 613 w_aI613) 614 w_aI614) 615 w_aI615) 616 w_aI616) 617 w_aI617) 618 w_aI618) H1 → va_S A s.heap H1 locs1 → W p l e R s m args below meth c0 H1 locs1 cells slots Q (F0 m (pc + 3) ls (.int r_ :: rest))) : W p l e R s m args below meth c0 H locs cells slots Q (F0 m pc ls (.ref (ad 500) :: rest)) := by
  subst e_zI504
  subst e_zI505
  subst e_zI506
  subst e_zI507
  subst e_zI508
  subst e_zI509
  subst e_zI510
  subst e_zI519
  subst e_aI600
  subst e_aI603
  subst e_aI611
  subst e_aI612
  subst e_aI613
  subst e_aI614
  subst e_aI615
  subst e_aI616
  subst e_aI617
  subst e_aI618
  exact p_callI (As := []) (rest := rest) E.1 hK hP hS hA (kM_lineRead l D G ad σ hu) (cwV 0 E.1.2.2.2.2 (lw_V q1894 q1896 qs59 q142 q1897) rfl rfl rfl (by decide +kernel) hR) dM_500 rfl rfl rfl hsz rfl hW hdg hcs kk
end MWALK
