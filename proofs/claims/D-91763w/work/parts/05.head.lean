/-! a method's entry -/
def EN (p : Program) (s : State) (m : MethodId) (args : Array Value) (meth : Method) (c0 : Code) (own : String) (cc : ByteArray) (nL : Nat) (ret : Option FieldType) : Prop :=
  CallFix p m c0 cc nL s args lw_all own ∧ meth.sig.returnType = ret ∧ meth.locks = false
theorem p_met {l : Launch} {y : MethodName} {cc : ByteArray} {maxL : Nat} {ret : Option FieldType} {rm : Room} {As : List Value} {B : State → Prop} {Qc : Array Value → State → Outcome → State → Prop} {mc ms : Nat} {free : Addr → Prop} (hy : plainName y.cls = true) (hl0 : (lg_sl As).length ≤ maxL)
    (body : ∀ (p : Program) (e : Env) (s : State) (m : MethodId) (below : List Frame) (meth : Method) (c0 : Code) (ls : Array Slot), EN p s m As.toArray meth c0 y.cls cc maxL ret → meth.name = y.name → B s → lv_has ls maxL (lv_args 0 As) →
      W p l e rm s m As.toArray below meth c0 s.heap [] 0 0 (MQ below Qc As.toArray s mc ms free) (F0 m 0 ls [])) :
    Met l y (ws_ y cc maxL ret) rm (va_Pc As B) Qc mc ms free := by
  refine Met.ofW (cc := cc) (maxL := maxL) (ret := ret) hy rfl ?_
  intro p e s m args below meth c s₁ Bd hml hv
  obtain ⟨rfl, hB⟩ := hv
  have hts := atoms_spec (ws := ws_ y cc maxL ret) Bd.pre
  have hts : ∀ w ∈ lw_all, w.before _ s = true := fun w h => hts w (List.mem_cons_of_mem _ h)
  have hown : s.vm.findClass y.cls = some m.cls := findClass_of_methodNamed Bd.named
  have hin : meth.name = y.name := (name_of_methodNamed Bd.named Bd.method).1
  have hl := lv_entry As (n := maxL) hl0
  rw [lg_entry_eq]
  exact body p e s m below meth c _ ⟨⟨Bd.exec, Bd.bytes, hml, hown, hts⟩, Bd.returns, Bd.notSynchronized⟩ hin hB hl
section CTS
variable {l : Launch} {y : MethodName} {cc : ByteArray} {maxL : Nat} {ret : Option FieldType} {rm : Room} {As : List Value} {D : va_G} {cl : List vw_C} {G : Nat → ClassId} {dsc : Nat → Option Dsc} {ad : Nat → Nat} {σ σ1 : Sto}
theorem p_ctI (hy : plainName y.cls = true) (hl0 : (lg_sl As).length ≤ maxL) {r : Int32}
    (body : ∀ (p : Program) (e : Env) (s : State) (m : MethodId) (below : List Frame) (meth : Method) (c0 : Code) (ls : Array Slot) (A : Nat → Prop), EN p s m As.toArray meth c0 y.cls cc maxL ret → PIC D cl G dsc ad σ s.heap → KK D cl G s → (∀ q, PA dsc ad s.heap.size q → A q) → va_S A s.heap s.heap [] → lv_has ls maxL (lv_args 0 As) →
      W p l e rm s m As.toArray below meth c0 s.heap [] 0 0 (MQ below (va_Qi (fun x (_ : Unit) => x = r) (fun _ t => PIC D cl G dsc ad σ1 t.heap ∧ KK D cl G t) A) As.toArray s 0 0 A) (F0 m 0 ls [])) :
    CtI l D cl G dsc ad y (ws_ y cc maxL ret) rm As σ r σ1 := by
  intro sz
  refine p_met hy hl0 ?_
  intro p e s m below meth c0 ls E _ hB hl
  obtain ⟨hsz, hP, hK⟩ := hB
  subst hsz
  exact body p e s m below meth c0 ls _ E hP hK (fun q h => h) va_S.rf hl
theorem p_ctL (hy : plainName y.cls = true) (hl0 : (lg_sl As).length ≤ maxL) {r : Int64}
    (body : ∀ (p : Program) (e : Env) (s : State) (m : MethodId) (below : List Frame) (meth : Method) (c0 : Code) (ls : Array Slot) (A : Nat → Prop), EN p s m As.toArray meth c0 y.cls cc maxL ret → PIC D cl G dsc ad σ s.heap → KK D cl G s → (∀ q, PA dsc ad s.heap.size q → A q) → va_S A s.heap s.heap [] → lv_has ls maxL (lv_args 0 As) →
      W p l e rm s m As.toArray below meth c0 s.heap [] 0 0 (MQ below (va_Ql (fun x (_ : Unit) => x = r) (fun _ t => PIC D cl G dsc ad σ1 t.heap ∧ KK D cl G t) A) As.toArray s 0 0 A) (F0 m 0 ls [])) :
    CtL l D cl G dsc ad y (ws_ y cc maxL ret) rm As σ r σ1 := by
  intro sz
  refine p_met hy hl0 ?_
  intro p e s m below meth c0 ls E _ hB hl
  obtain ⟨hsz, hP, hK⟩ := hB
  subst hsz
  exact body p e s m below meth c0 ls _ E hP hK (fun q h => h) va_S.rf hl
theorem p_ctV (hy : plainName y.cls = true) (hl0 : (lg_sl As).length ≤ maxL)
    (body : ∀ (p : Program) (e : Env) (s : State) (m : MethodId) (below : List Frame) (meth : Method) (c0 : Code) (ls : Array Slot) (A : Nat → Prop), EN p s m As.toArray meth c0 y.cls cc maxL ret → PIC D cl G dsc ad σ s.heap → KK D cl G s → (∀ q, PA dsc ad s.heap.size q → A q) → va_S A s.heap s.heap [] → lv_has ls maxL (lv_args 0 As) →
      W p l e rm s m As.toArray below meth c0 s.heap [] 0 0 (MQ below (va_Qv (fun (_ : Unit) => True) (fun _ t => PIC D cl G dsc ad σ1 t.heap ∧ KK D cl G t) A) As.toArray s 0 0 A) (F0 m 0 ls [])) :
    CtV l D cl G dsc ad y (ws_ y cc maxL ret) rm As σ σ1 := by
  intro sz
  refine p_met hy hl0 ?_
  intro p e s m below meth c0 ls E _ hB hl
  obtain ⟨hsz, hP, hK⟩ := hB
  subst hsz
  exact body p e s m below meth c0 ls _ E hP hK (fun q h => h) va_S.rf hl
end CTS
theorem lgc_ge (x y : Int64) : (0 ≤ lg_cmp x y) ↔ y ≤ x := lg_cmp_ge x y
theorem lgc_all (x y : Int64) : (lg_cmp x y = 1 ∧ y < x) ∨ (lg_cmp x y = 0 ∧ x = y) ∨ (lg_cmp x y = -1 ∧ x < y) := by
  unfold lg_cmp
  by_cases h1 : x > y
  · left; exact ⟨if_pos h1, h1⟩
  · by_cases h2 : x = y
    · right; left; exact ⟨by rw [if_neg h1, if_pos h2], h2⟩
    · right; right
      refine ⟨by rw [if_neg h1, if_neg h2], ?_⟩
      have h3 : ¬ y < x := h1
      rw [Int64.lt_iff_toInt_lt] at h3 ⊢
      have h4 : x.toInt ≠ y.toInt := fun h => h2 (Int64.toInt_inj.mp h)
      omega
theorem l64_irr {x y : Int64} (h : x < y) : ¬ y < x ∧ ¬ x = y ∧ x ≤ y ∧ ¬ y ≤ x := by
  refine ⟨?_, ?_, ?_, ?_⟩
  · rw [Int64.lt_iff_toInt_lt] at h ⊢; omega
  · rintro rfl; rw [Int64.lt_iff_toInt_lt] at h; omega
  · rw [Int64.lt_iff_toInt_lt] at h; rw [Int64.le_iff_toInt_le]; omega
  · rw [Int64.lt_iff_toInt_lt] at h; rw [Int64.le_iff_toInt_le]; omega
theorem l64_rf (x : Int64) : x ≤ x ∧ ¬ x < x := by
  constructor
  · rw [Int64.le_iff_toInt_le]; omega
  · rw [Int64.lt_iff_toInt_lt]; omega
theorem lgc_gt (x y : Int64) : (0 < lg_cmp x y) ↔ y < x := by
  rcases lgc_all x y with ⟨h, k⟩ | ⟨h, k⟩ | ⟨h, k⟩ <;> rw [h]
  · exact ⟨fun _ => k, fun _ => by decide⟩
  · subst k; exact ⟨fun z => absurd z (by decide), fun z => absurd z (l64_rf x).2⟩
  · exact ⟨fun z => absurd z (by decide), fun z => absurd z (l64_irr k).1⟩
theorem lgc_lt (x y : Int64) : (lg_cmp x y < 0) ↔ x < y := by
  rcases lgc_all x y with ⟨h, k⟩ | ⟨h, k⟩ | ⟨h, k⟩ <;> rw [h]
  · exact ⟨fun z => absurd z (by decide), fun z => absurd z (l64_irr k).1⟩
  · subst k; exact ⟨fun z => absurd z (by decide), fun z => absurd z (l64_rf x).2⟩
  · exact ⟨fun _ => k, fun _ => by decide⟩
theorem lgc_le (x y : Int64) : (lg_cmp x y ≤ 0) ↔ x ≤ y := by
  rcases lgc_all x y with ⟨h, k⟩ | ⟨h, k⟩ | ⟨h, k⟩ <;> rw [h]
  · exact ⟨fun z => absurd z (by decide), fun z => absurd z (l64_irr k).2.2.2⟩
  · subst k; exact ⟨fun _ => (l64_rf x).1, fun _ => by decide⟩
  · exact ⟨fun _ => (l64_irr k).2.2.1, fun _ => by decide⟩
theorem lgc_eq (x y : Int64) : (lg_cmp x y = 0) ↔ x = y := by
  rcases lgc_all x y with ⟨h, k⟩ | ⟨h, k⟩ | ⟨h, k⟩ <;> rw [h]
  · exact ⟨fun z => absurd z (by decide), fun z => absurd z.symm (l64_irr k).2.1⟩
  · subst k; exact ⟨fun _ => rfl, fun _ => rfl⟩
  · exact ⟨fun z => absurd z (by decide), fun z => absurd z (l64_irr k).2.1⟩
def retZ (v : Int32) : Option Int32 := if v = 0 ∨ v = 1 then some v else none
theorem retZ_some {v r : Int32} (h : retZ v = some r) : v = r ∧ narrow .boolean (.int v) = .int v := by
  unfold retZ at h
  split at h
  · next h1 =>
    refine ⟨Option.some.inj h, ?_⟩
    rcases h1 with rfl | rfl <;> rfl
  · cases h
def sE {α β γ : Type} (f : α → γ) (g : β → γ) : α ⊕ β → γ
  | .inl a => f a
  | .inr b => g b
theorem sE_l {α β γ : Type} (f : α → γ) (g : β → γ) (a : α) : sE f g (.inl a) = f a := rfl
theorem sE_r {α β γ : Type} (f : α → γ) (g : β → γ) (b : β) : sE f g (.inr b) = g b := rfl
