/-! rows for the system's side: nest mates, statics, answers of any kind, references that may be null -/
def isN : Cond → Bool
  | .fieldLinkNest _ _ _ _ _ _ => true
  | .methodLinkNest _ _ _ _ => true
  | .castable _ _ => true
  | .declares _ => true
  | _ => false
def NW (U : State) : Prop := ∀ w ∈ lw_tbl, isN w = true → va_Nw w U
theorem isN_tab {w : Cond} (h : isN w = true) : w.onTables = true := by
  unfold isN at h
  split at h <;> first | rfl | cases h
theorem NW.same {u U : State} (h : NW u) (e : u.vm = U.vm) : NW U := fun w hw hn => va_Nw.same (isN_tab hn) e (h w hw hn)
theorem NW.warm {s U : State} (h : NW s) (hW : s.WarmedH U.vm) : NW U := by
  intro w hw hn
  have h1 := h w hw hn
  unfold isN at hn
  split at hn
  · exact va_Nw.warmF hW h1
  · exact va_Nw.warmM hW h1
  · exact va_Nw.warmC hW h1
  · exact va_Nw.warmD hW h1
  · cases hn
/-- private methods of an abstract class, chosen for an object of a class below it -/
def xsel : List (String × MethodName) := [("ShutPasses$InMean", ⟨"ShutPasses$Table", "lay", "(I)V"⟩), ("ShutPasses$InMean", ⟨"ShutPasses$Table", "betters", "(II)Z"⟩), ("ShutPasses$InMean", ⟨"ShutPasses$Table", "better", "(JJ)J"⟩), ("ShutPasses$InMean", ⟨"ShutPasses$Table", "shown", "(IIIII)J"⟩), ("ShutPasses$InMean", ⟨"ShutPasses$Table", "arrived", "(II)J"⟩), ("ShutPasses$AtWorst", ⟨"ShutPasses$Table", "lay", "(I)V"⟩), ("ShutPasses$AtWorst", ⟨"ShutPasses$Table", "betters", "(II)Z"⟩), ("ShutPasses$AtWorst", ⟨"ShutPasses$Table", "better", "(JJ)J"⟩), ("ShutPasses$AtWorst", ⟨"ShutPasses$Table", "shown", "(IIIII)J"⟩), ("ShutPasses$AtWorst", ⟨"ShutPasses$Table", "arrived", "(II)J"⟩), ("ShutPasses$Spare", ⟨"ShutPasses$Table", "lay", "(I)V"⟩), ("ShutPasses$Spare", ⟨"ShutPasses$Table", "betters", "(II)Z"⟩), ("ShutPasses$Spare", ⟨"ShutPasses$Table", "better", "(JJ)J"⟩), ("ShutPasses$Spare", ⟨"ShutPasses$Table", "shown", "(IIIII)J"⟩), ("ShutPasses$Spare", ⟨"ShutPasses$Table", "arrived", "(II)J"⟩), ("ShutPasses$Hope", ⟨"ShutPasses$AsIf", "cost", "(III)I"⟩), ("ShutPasses$Fear", ⟨"ShutPasses$AsIf", "cost", "(III)I"⟩), ("ShutPasses$Tries", ⟨"ShutPasses$AsIf", "cost", "(III)I"⟩)]
def NS (U : State) : Prop := ∀ q ∈ xsel, va_Nw (.selects q.1 q.2 q.2) U
theorem NS.same {u U : State} (h : NS u) (e : u.vm = U.vm) : NS U := fun q hq => va_Nw.same rfl e (h q hq)
theorem NS.warm {s U : State} (h : NS s) (hW : s.WarmedH U.vm) : NS U := fun q hq => word_at (args := #[]) hW (Or.inl rfl) (h q hq)
theorem sel_priv {C : String} {x0 y0 y : MethodName} {s : State} {args : Array Value} (hs : (Cond.selects C x0 y0).before args s = true) (hy : y.cls ≠ "java/lang/invoke/MethodHandle" ∧ y.cls ≠ "java/lang/invoke/VarHandle") (hyy : y.cls = y0.cls)
    (hpriv : (Cond.privateMethod y).before args s = true) (hinst : (Cond.instanceMethod y).before args s = true) : (Cond.selects C y y).before args s = true := by
  obtain ⟨mk, methM, hnamed, hmethM, -, -⟩ := Cond.instanceMethod_spec hinst
  have hfound : s.methodFound? y.cls y.name y.desc = some mk := State.methodFound?_of_named hnamed hy
  simp only [Cond.before, Cond.holds, Cond.value] at hs
  cases hc : s.vm.findClass C with
  | none => simp [hc] at hs
  | some c =>
    cases hf : s.methodFound? x0.cls x0.name x0.desc with
    | none => simp [hc, hf] at hs
    | some r =>
      cases hn : s.methodNamed? y0 with
      | none => simp [hc, hf, hn] at hs
      | some m0 =>
        have hcls : m0.cls = mk.cls := Option.some.inj ((findClass_of_methodNamed hn).symm.trans (by rw [← hyy]; exact findClass_of_methodNamed hnamed))
        have hsel : selectMethod {} s.vm c mk = .method mk := selectMethod_private hmethM (Cond.privateMethod_at hpriv mk methM hnamed hmethM)
        simp only [hc, hf, hn] at hs
        have hs2 : ((s.vm.classes[m0.cls]?).any (fun k => !k.isInterface)) = true := by
          cases hm : selectMethod {} s.vm c r with
          | method m' => simp [hm] at hs; simpa using hs.2
          | _ => simp [hm] at hs
        simp only [Cond.before, Cond.holds, Cond.value, hc, hfound, hnamed, hsel, ← hcls, hs2]
        simp
def KX (D : va_G) (G : Nat → ClassId) (ad : Nat → Nat) (A : Nat → Prop) (U : State) (H : Heap) : Prop :=
  KK D clsA G U ∧ (NW U ∧ NS U) ∧ va_Z "ShutPasses" "UNIT" "[I" (.ref (ad 1170)) A U H ∧ va_Z "ShutPasses" "NAMES" "[Ljava/lang/String;" (.ref (ad 1171)) A U H ∧ va_Z "java/lang/String" "COMPACT_STRINGS" "Z" (.int 1) A U H
theorem va_Z.same {C n d : String} {v : Value} {A : Nat → Prop} {u U : State} {H : Heap} (e : u.vm = U.vm) (h : va_Z C n d v A u H) : va_Z C n d v A U H := va_Z.moved (by rw [e]; exact Vm.Alike.refl U.vm) h
theorem KX.call {D : va_G} {G : Nat → ClassId} {ad : Nat → Nat} {A A1 : Nat → Prop} {s U : State} {H : Heap} {locs : List Loc} (h : KX D G ad A s s.heap) (hW : s.WarmedH U.vm) (hS : va_S A s.heap H locs) (hsub : ∀ q, A1 q → A q) : KX D G ad A1 U H := by
  obtain ⟨h1, h2, h3, h4, h5⟩ := h
  exact ⟨KK.moved hW.alike h1, ⟨h2.1.warm hW, h2.2.warm hW⟩, ((h3.kept hS.2.1).narrow hsub).moved hW.alike, ((h4.kept hS.2.1).narrow hsub).moved hW.alike, ((h5.kept hS.2.1).narrow hsub).moved hW.alike⟩
theorem KX.same {D : va_G} {G : Nat → ClassId} {ad : Nat → Nat} {A : Nat → Prop} {u U : State} {H : Heap} (h : KX D G ad A u H) (e : u.vm = U.vm) : KX D G ad A U H := by
  obtain ⟨h1, h2, h3, h4, h5⟩ := h
  exact ⟨KK.moved (by rw [e]; exact Vm.Alike.refl U.vm) h1, ⟨h2.1.same e, h2.2.same e⟩, h3.same e, h4.same e, h5.same e⟩
/-- an end with a given answer -/
def va_G1 (val : Option Value) (B : State → Prop) (A : Nat → Prop) : Array Value → State → Outcome → State → Prop := fun _ st oc t => (oc = .returned val ∧ B t) ∧ va_F A st t
def PreX (D : va_G) (G : Nat → ClassId) (dsc : Nat → Option Dsc) (ad : Nat → Nat) (σ : Sto) (sz : Nat) (U : State) : Prop := U.heap.size = sz ∧ PIC D clsA G dsc ad σ U.heap ∧ KX D G ad (PA dsc ad sz) U U.heap
def CtG (l : Launch) (D : va_G) (G : Nat → ClassId) (dsc : Nat → Option Dsc) (ad : Nat → Nat) (y : MethodName) (ws : List Cond) (rm : Room) (As : List Value) (σ : Sto) (val : Option Value) (σ1 : Sto) : Prop :=
  ∀ sz : Nat, Met l y ws rm (va_Pc As (PreX D G dsc ad σ sz)) (va_G1 val (fun t => PIC D clsA G dsc ad σ1 t.heap) (PA dsc ad sz)) 0 0 (PA dsc ad sz)
theorem PreX_blind {D : va_G} {G : Nat → ClassId} {dsc : Nat → Option Dsc} {ad : Nat → Nat} {σ : Sto} {As : List Value} {sz : Nat} : FrameBlind (va_Pc As (PreX D G dsc ad σ sz)) := fun a U g mk q => by
  obtain ⟨q0, q1, qP, qK⟩ := q
  exact ⟨q0, q1, qP, KX.same (u := U) (U := U.calling g mk a) qK rfl⟩
section XR
variable {p : Program} {l : Launch} {e : Env} {R : Room} {s : State} {m : MethodId} {args : Array Value} {below : List Frame} {meth : Method} {c0 : Code} {H : Heap} {locs : List Loc} {cells slots : Nat} {Q : State → Prop}
variable {cc : ByteArray} {pc : Nat} {ls : Array Slot} {rest : List Value} {D : va_G} {A : Nat → Prop} {H0 : Heap}
variable {G : Nat → ClassId} {dsc : Nat → Option Dsc} {ad : Nat → Nat} {σ : Sto} {c : Nat}
section CALLX
variable {y x : MethodName} {bytes : ByteArray} {maxL nL n index : Nat} {ret : Option FieldType} {ws Ts : List Cond} {rm : Room} {own C owner host : String} {As st0 : List Value} {σ1 : Sto} {ci : Nat} {ks : List (Nat × Nat)} {q : vw_C} {val : Option Value}
theorem p_goG {a : Array Value} {free A1 : Nat → Prop} {B : State → Prop} (hr : va_Run p l e R s m args below meth c0 H locs cells slots 0 0 (F0 m pc ls st0) rest (va_G1 val B A1 a) free) (hS : va_S A H0 H locs) (hA : ∀ q, A1 q → A q) (hf : ∀ q, free q → A q)
    (kk : ∀ (t : State) (H1 : Heap) (locs1 : List Loc), t.heap = H1 → B t → va_S A H0 H1 locs1 → W p l e R s m args below meth c0 H1 locs1 cells slots Q (F0 m (pc + 3) ls (val.toList ++ rest))) : W p l e R s m args below meth c0 H locs cells slots Q (F0 m pc ls st0) := by
  intro T hT X
  obtain ⟨v, st₀, t, T', L, h0, X', hL, e1, e2, ⟨⟨hv, hb⟩, hz, hk⟩, st⟩ := hr T hT X
  cases hv
  rw [h0] at hz hk
  obtain ⟨t2, a1, b1⟩ := kk t T'.heap (locs ++ L) e1.symm hb
    ⟨Nat.le_trans hS.1 (by rw [e1]; exact hz), fun q h1 h2 => by rw [e1, hk q (Nat.lt_of_lt_of_le h1 hS.1) (fun z => h2 (hA q z))]; exact hS.2.1 q h1 h2, fun q hq => by
      rcases List.mem_append.mp hq with h | h
      · exact hS.2.2 q h
      · exact hf _ (hL q h)⟩ T' rfl X'
  exact ⟨t2, st t2 a1, b1⟩
theorem p_gV (Sx : CallFix p m c0 cc nL s args Ts own) (hX : KX D G ad A s s.heap) (hP : PIC D clsA G dsc ad σ H) (hS : va_S A s.heap H locs) (hA : ∀ (q : Nat), PA dsc ad s.heap.size q → A q) (hM : CtG l D G dsc ad y ws rm (.ref (ad c) :: As) σ val σ1) (cw : CallW R s args own C index y bytes maxL ret ws rm 0 0 n) (hd : dsc c = some (.inl (ci, ks))) (hc : clsA[ci]? = some q) (hC : q.1 = C)
    (hn : As.length = n) (hsize : ls.size = nL) (hstack : st0 = As.reverse ++ .ref (ad c) :: rest) (hW : (rest.map fun v => v.category).sum ≤ 8) (hdg : decode cc pc = .ok (.invokevirtual index, 3)) (hf : cells ≤ R.cells ∧ slots ≤ R.slots)
    (kk : ∀ (H1 : Heap) (locs1 : List Loc), PIC D clsA G dsc ad σ1 H1 → va_S A s.heap H1 locs1 → W p l e R s m args below meth c0 H1 locs1 cells slots Q (F0 m (pc + 3) ls (val.toList ++ rest))) : W p l e R s m args below meth c0 H locs cells slots Q (F0 m pc ls st0) := by
  subst hC
  have hsub := PA_sub hA hS
  exact p_goG (va_runV (As := As) (rest := rest) Sx (hM H.size) cw ⟨PreX_blind, PIC.recv hX.1 hP hd hc, fun U hU hW => ⟨rfl, by rw [hU], by rw [hU]; exact hP, by rw [hU]; exact hX.call hW hS hsub⟩⟩ rfl hn hsize hstack (lv_room hW) hdg ⟨hf.1, hf.2⟩) hS hsub hsub (fun t H1 locs1 ht hB hS1 => kk H1 locs1 (by rw [← ht]; exact hB) hS1)
theorem p_gU (Sx : CallFix p m c0 cc nL s args Ts own) (hX : KX D G ad A s s.heap) (hP : PIC D clsA G dsc ad σ H) (hS : va_S A s.heap H locs) (hA : ∀ (q : Nat), PA dsc ad s.heap.size q → A q) (hM : CtG l D G dsc ad y ws rm (.ref (ad c) :: As) σ val σ1) (cw : va_CU R s args own C owner index x y bytes maxL ret ws rm 0 0 n) (hd : dsc c = some (.inl (ci, ks))) (hc : clsA[ci]? = some q) (hC : q.1 = C)
    (hn : As.length = n) (hsize : ls.size = nL) (hstack : st0 = As.reverse ++ .ref (ad c) :: rest) (hW : (rest.map fun v => v.category).sum ≤ 8) (hdg : decode cc pc = .ok (.invokevirtual index, 3)) (hf : cells ≤ R.cells ∧ slots ≤ R.slots)
    (kk : ∀ (H1 : Heap) (locs1 : List Loc), PIC D clsA G dsc ad σ1 H1 → va_S A s.heap H1 locs1 → W p l e R s m args below meth c0 H1 locs1 cells slots Q (F0 m (pc + 3) ls (val.toList ++ rest))) : W p l e R s m args below meth c0 H locs cells slots Q (F0 m pc ls st0) := by
  subst hC
  have hsub := PA_sub hA hS
  exact p_goG (va_runU (As := As) (rest := rest) Sx (hM H.size) cw ⟨PreX_blind, PIC.recv hX.1 hP hd hc, fun U hU hW => ⟨rfl, by rw [hU], by rw [hU]; exact hP, by rw [hU]; exact hX.call hW hS hsub⟩⟩ rfl hn hsize hstack (lv_room hW) hdg ⟨hf.1, hf.2⟩) hS hsub hsub (fun t H1 locs1 ht hB hS1 => kk H1 locs1 (by rw [← ht]; exact hB) hS1)
theorem p_gVN (Sx : CallFix p m c0 cc nL s args Ts own) (hX : KX D G ad A s s.heap) (hP : PIC D clsA G dsc ad σ H) (hS : va_S A s.heap H locs) (hA : ∀ (q : Nat), PA dsc ad s.heap.size q → A q) (hM : CtG l D G dsc ad y ws rm (.ref (ad c) :: As) σ val σ1) (cw : va_CN R s args own index y host bytes maxL ret ws rm 0 0 n ∧ (Cond.instanceMethod y).before args s = true ∧ (Cond.selects C y y).before args s = true) (hd : dsc c = some (.inl (ci, ks))) (hc : clsA[ci]? = some q) (hC : q.1 = C)
    (hn : As.length = n) (hsize : ls.size = nL) (hstack : st0 = As.reverse ++ .ref (ad c) :: rest) (hW : (rest.map fun v => v.category).sum ≤ 8) (hdg : decode cc pc = .ok (.invokevirtual index, 3)) (hf : cells ≤ R.cells ∧ slots ≤ R.slots)
    (kk : ∀ (H1 : Heap) (locs1 : List Loc), PIC D clsA G dsc ad σ1 H1 → va_S A s.heap H1 locs1 → W p l e R s m args below meth c0 H1 locs1 cells slots Q (F0 m (pc + 3) ls (val.toList ++ rest))) : W p l e R s m args below meth c0 H locs cells slots Q (F0 m pc ls st0) := by
  subst hC
  have hsub := PA_sub hA hS
  exact p_goG (va_runVN (As := As) (rest := rest) Sx (hM H.size) cw ⟨PreX_blind, PIC.recv hX.1 hP hd hc, fun U hU hW => ⟨rfl, by rw [hU], by rw [hU]; exact hP, by rw [hU]; exact hX.call hW hS hsub⟩⟩ rfl hn hsize hstack (lv_room hW) hdg ⟨hf.1, hf.2⟩) hS hsub hsub (fun t H1 locs1 ht hB hS1 => kk H1 locs1 (by rw [← ht]; exact hB) hS1)
theorem p_gS (Sx : CallFix p m c0 cc nL s args Ts own) (hX : KX D G ad A s s.heap) (hP : PIC D clsA G dsc ad σ H) (hS : va_S A s.heap H locs) (hA : ∀ (q : Nat), PA dsc ad s.heap.size q → A q) (hM : CtG l D G dsc ad y ws rm As σ val σ1) (cw : CallB R s args own index y bytes maxL ret ws rm 0 0 n ∧ (Cond.static y).before args s = true)
    (hn : As.length = n) (hsize : ls.size = nL) (hstack : st0 = As.reverse ++ rest) (hW : (rest.map fun v => v.category).sum ≤ 8) (hdg : decode cc pc = .ok (.invokestatic index, 3)) (hf : cells ≤ R.cells ∧ slots ≤ R.slots)
    (kk : ∀ (H1 : Heap) (locs1 : List Loc), PIC D clsA G dsc ad σ1 H1 → va_S A s.heap H1 locs1 → W p l e R s m args below meth c0 H1 locs1 cells slots Q (F0 m (pc + 3) ls (val.toList ++ rest))) : W p l e R s m args below meth c0 H locs cells slots Q (F0 m pc ls st0) := by
  have hsub := PA_sub hA hS
  exact p_goG (va_runS (As := As) (rest := rest) Sx (hM H.size) cw ⟨PreX_blind, fun U hU hW => ⟨rfl, by rw [hU], by rw [hU]; exact hP, by rw [hU]; exact hX.call hW hS hsub⟩⟩ rfl hn hsize hstack (lv_room hW) hdg ⟨hf.1, hf.2⟩) hS hsub hsub (fun t H1 locs1 ht hB hS1 => kk H1 locs1 (by rw [← ht]; exact hB) hS1)
theorem p_gSN (Sx : CallFix p m c0 cc nL s args Ts own) (hX : KX D G ad A s s.heap) (hP : PIC D clsA G dsc ad σ H) (hS : va_S A s.heap H locs) (hA : ∀ (q : Nat), PA dsc ad s.heap.size q → A q) (hM : CtG l D G dsc ad y ws rm As σ val σ1) (cw : va_CN R s args own index y host bytes maxL ret ws rm 0 0 n ∧ (Cond.static y).before args s = true ∧ True)
    (hn : As.length = n) (hsize : ls.size = nL) (hstack : st0 = As.reverse ++ rest) (hW : (rest.map fun v => v.category).sum ≤ 8) (hdg : decode cc pc = .ok (.invokestatic index, 3)) (hf : cells ≤ R.cells ∧ slots ≤ R.slots)
    (kk : ∀ (H1 : Heap) (locs1 : List Loc), PIC D clsA G dsc ad σ1 H1 → va_S A s.heap H1 locs1 → W p l e R s m args below meth c0 H1 locs1 cells slots Q (F0 m (pc + 3) ls (val.toList ++ rest))) : W p l e R s m args below meth c0 H locs cells slots Q (F0 m pc ls st0) := by
  have hsub := PA_sub hA hS
  exact p_goG (va_runSN (As := As) (rest := rest) Sx (hM H.size) cw ⟨PreX_blind, fun U hU hW => ⟨rfl, by rw [hU], by rw [hU]; exact hP, by rw [hU]; exact hX.call hW hS hsub⟩⟩ rfl hn hsize hstack (lv_room hW) hdg ⟨hf.1, hf.2⟩) hS hsub hsub (fun t H1 locs1 ht hB hS1 => kk H1 locs1 (by rw [← ht]; exact hB) hS1)
end CALLX
/-- what a call asks when the method that is run isn't named by the class that names it -/
theorem cw_any {R : Room} {s : State} {args : Array Value} {own C owner : String} {index maxL mc ms : Nat} {x y : MethodName} {bytes : ByteArray} {ret : Option FieldType} {Ts ws ws' : List Cond} {rm : Room} (n : Nat) (ht : ∀ w ∈ Ts, w.before args s = true) (hG : GoodIn Ts ws) (hw : ws = Cond.code y bytes maxL ret :: ws') (hrc : rm.cells = mc) (hrs : rm.slots = ms)
    (hlink : (Cond.methodLink own index x).before args s = true) (hsame : (Cond.sameMethod x.cls owner x.name x.desc).before args s = true) (hdecl : va_Decl s ⟨owner, x.name, x.desc⟩) (hsel : (Cond.selects C x y).before args s = true) (hinst : (Cond.instanceMethod y).before args s = true) (hini : (Cond.initialized y.cls).before args s = true)
    (hd : owner ≠ "java/lang/invoke/MethodHandle" ∧ owner ≠ "java/lang/invoke/VarHandle" ∧ (parseMethodDescriptor x.desc).map (fun d => d.parameters.length) = some n) (hR : rm.frames + 1 ≤ R.frames ∧ 8 + (maxL + 11) + rm.locals ≤ R.locals) : va_CU R s args own C owner index x y bytes maxL ret ws rm mc ms n := by
  have hc : Cond.code y bytes maxL ret ∈ ws := by rw [hw]; exact List.mem_cons_self
  refine ⟨⟨hrc, hrs, hR.1, hR.2, pay_in ht hG, hc⟩, ht _ (hG _ hc).1, hini, ⟨hd.1, hd.2.1⟩, fun sig h => ?_, hlink, hsame, hdecl, hsel, hinst⟩
  have h2 := hd.2.2
  rw [h] at h2
  exact (Option.some.inj h2).symm
/-! ends -/
theorem g_iret (hexec : p.tables.exec = Jvm.exec) (hb : c0.code = cc) (hr : meth.sig.returnType = some .int) (hlocks : meth.locks = false) (hP : PIC D clsA G dsc ad σ H) (hS : va_S A s.heap H locs) {v : Int32} (hdg : decode cc pc = .ok (.ireturn, 1)) : W p l e R s m args below meth c0 H locs cells slots (MQ below (va_G1 (some (.int v)) (fun t => PIC D clsA G dsc ad σ t.heap) A) args s cells slots A) (F0 m pc ls [.int v]) :=
  W.iret hexec hb hr (fun t ht hW => ⟨⟨rfl, by show PIC D clsA G dsc ad σ t.heap; rw [ht]; exact hP⟩, hS.F ht⟩) hS.2.2 hdg hlocks
theorem g_nret {ty : FieldType} (hexec : p.tables.exec = Jvm.exec) (hb : c0.code = cc) (hr : meth.sig.returnType = some ty) (hlocks : meth.locks = false) (hP : PIC D clsA G dsc ad σ H) (hS : va_S A s.heap H locs) {v : Int32} (hn : narrow ty (.int v) = .int v) (hdg : decode cc pc = .ok (.ireturn, 1)) : W p l e R s m args below meth c0 H locs cells slots (MQ below (va_G1 (some (.int v)) (fun t => PIC D clsA G dsc ad σ t.heap) A) args s cells slots A) (F0 m pc ls [.int v]) :=
  W.zret hexec hb hr hn (fun t ht hW => ⟨⟨rfl, by show PIC D clsA G dsc ad σ t.heap; rw [ht]; exact hP⟩, hS.F ht⟩) hS.2.2 hdg hlocks
theorem g_lret (hexec : p.tables.exec = Jvm.exec) (hb : c0.code = cc) (hr : meth.sig.returnType = some .long) (hlocks : meth.locks = false) (hP : PIC D clsA G dsc ad σ H) (hS : va_S A s.heap H locs) {v : Int64} (hdg : decode cc pc = .ok (.lreturn, 1)) : W p l e R s m args below meth c0 H locs cells slots (MQ below (va_G1 (some (.long v)) (fun t => PIC D clsA G dsc ad σ t.heap) A) args s cells slots A) (F0 m pc ls [.long v]) :=
  W.lret hexec hb hr (fun t ht hW => ⟨⟨rfl, by show PIC D clsA G dsc ad σ t.heap; rw [ht]; exact hP⟩, hS.F ht⟩) hS.2.2 hdg hlocks
theorem g_vret (hexec : p.tables.exec = Jvm.exec) (hb : c0.code = cc) (hr : meth.sig.returnType = none) (hlocks : meth.locks = false) (hP : PIC D clsA G dsc ad σ H) (hS : va_S A s.heap H locs) (hdg : decode cc pc = .ok (.return_, 1)) : W p l e R s m args below meth c0 H locs cells slots (MQ below (va_G1 none (fun t => PIC D clsA G dsc ad σ t.heap) A) args s cells slots A) (F0 m pc ls []) :=
  W.vret hexec hb hr (fun t ht hW => ⟨⟨rfl, by show PIC D clsA G dsc ad σ t.heap; rw [ht]; exact hP⟩, hS.F ht⟩) hS.2.2 hdg hlocks
theorem g_aret {n : String} (hexec : p.tables.exec = Jvm.exec) (hb : c0.code = cc) (hr : meth.sig.returnType = some (.object n)) (hlocks : meth.locks = false) (hP : PIC D clsA G dsc ad σ H) (hS : va_S A s.heap H locs) {o : Option Nat} (hdg : decode cc pc = .ok (.areturn, 1)) : W p l e R s m args below meth c0 H locs cells slots (MQ below (va_G1 (some (va_rf o)) (fun t => PIC D clsA G dsc ad σ t.heap) A) args s cells slots A) (F0 m pc ls [va_rf o]) :=
  W.aret hexec hb hr (Or.inl ⟨n, rfl⟩) (va_rf_or o) (fun t ht hW => ⟨⟨rfl, by show PIC D clsA G dsc ad σ t.heap; rw [ht]; exact hP⟩, hS.F ht⟩) hS.2.2 hdg hlocks
/-! references that may be null -/
theorem drf_neg {b : Nat} {v : Int32} (h : v < 0) : va_rf (drf ad b v) = .null := by
  unfold drf; rw [if_pos h]; rfl
theorem drf_pos {b : Nat} {v : Int32} (h : ¬ v < 0) : va_rf (drf ad b v) = .ref (ad (b + 16 * v.toNatClampNeg)) := by
  unfold drf; rw [if_neg h]; rfl
theorem r_aload_n (hexec : p.tables.exec = Jvm.exec) (hb : c0.code = cc) {k : Fin 4} {i : Nat} {o : Option Nat} (hdg : decode cc pc = .ok (.aload_n k, 1)) (hi : (k : Nat) = i) (hl : ls[i]? = some (.val (va_rf o)))
    (kk : W p l e R s m args below meth c0 H locs cells slots Q (F0 m (pc + 1) ls (va_rf o :: rest))) : W p l e R s m args below meth c0 H locs cells slots Q (F0 m pc ls rest) := by
  cases o with
  | none => exact lv_aload_nN hexec hb hdg hi hl kk
  | some a => exact lv_aload_n hexec hb hdg hi hl kk
theorem r_aload (hexec : p.tables.exec = Jvm.exec) (hb : c0.code = cc) {i : Nat} {o : Option Nat} (hdg : decode cc pc = .ok (.aload i, 2)) (hl : ls[i]? = some (.val (va_rf o)))
    (kk : W p l e R s m args below meth c0 H locs cells slots Q (F0 m (pc + 2) ls (va_rf o :: rest))) : W p l e R s m args below meth c0 H locs cells slots Q (F0 m pc ls rest) := by
  cases o with
  | none => exact lv_aloadN hexec hb hdg hl kk
  | some a => exact lv_aload hexec hb hdg hl kk
theorem r_astore_n (hexec : p.tables.exec = Jvm.exec) (hb : c0.code = cc) {k : Fin 4} {i nL : Nat} {o : Option Nat} {lv lv' : List (Nat × Value)} (hdg : decode cc pc = .ok (.astore_n k, 1)) (hi : (k : Nat) = i) (h : lv_has ls nL lv) (hn : i < nL) (hl : (i, va_rf o) :: lv.filter (fun q => !(q.1 == i) && !(q.1 + 1 == i && q.2.category == 2)) = lv')
    (kk : ∀ ls' : Array Slot, lv_has ls' nL lv' → W p l e R s m args below meth c0 H locs cells slots Q (F0 m (pc + 1) ls' rest)) : W p l e R s m args below meth c0 H locs cells slots Q (F0 m pc ls (va_rf o :: rest)) := by
  cases o with
  | none => exact lv_astore_nN hexec hb hdg hi h hn hl kk
  | some a => exact lv_astore_n hexec hb hdg hi h hn hl kk
theorem r_astore (hexec : p.tables.exec = Jvm.exec) (hb : c0.code = cc) {i nL : Nat} {o : Option Nat} {lv lv' : List (Nat × Value)} (hdg : decode cc pc = .ok (.astore i, 2)) (h : lv_has ls nL lv) (hn : i < nL) (hl : (i, va_rf o) :: lv.filter (fun q => !(q.1 == i) && !(q.1 + 1 == i && q.2.category == 2)) = lv')
    (kk : ∀ ls' : Array Slot, lv_has ls' nL lv' → W p l e R s m args below meth c0 H locs cells slots Q (F0 m (pc + 2) ls' rest)) : W p l e R s m args below meth c0 H locs cells slots Q (F0 m pc ls (va_rf o :: rest)) := by
  cases o with
  | none => exact lv_astoreN hexec hb hdg h hn hl kk
  | some a => exact lv_astore hexec hb hdg h hn hl kk
theorem r_ifnull (hexec : p.tables.exec = Jvm.exec) (hb : c0.code = cc) {b : Nat} {v : Int32} {off : Int} {tgt : Nat} (hdg : decode cc pc = .ok (.ifnull off, 3)) (ht : (pc : Int) + off = (tgt : Int))
    (kt : v < 0 → W p l e R s m args below meth c0 H locs cells slots Q (F0 m tgt ls rest)) (kf : ¬ v < 0 → W p l e R s m args below meth c0 H locs cells slots Q (F0 m (pc + 3) ls rest)) : W p l e R s m args below meth c0 H locs cells slots Q (F0 m pc ls (va_rf (drf ad b v) :: rest)) := by
  by_cases h : v < 0
  · rw [drf_neg h]; exact lv_ifnullN hexec hb hdg ht (kt h)
  · rw [drf_pos h]; exact lv_ifnull hexec hb hdg (kf h)
theorem r_ifnonnull (hexec : p.tables.exec = Jvm.exec) (hb : c0.code = cc) {b : Nat} {v : Int32} {off : Int} {tgt : Nat} (hdg : decode cc pc = .ok (.ifnonnull off, 3)) (ht : (pc : Int) + off = (tgt : Int))
    (kt : v < 0 → W p l e R s m args below meth c0 H locs cells slots Q (F0 m (pc + 3) ls rest)) (kf : ¬ v < 0 → W p l e R s m args below meth c0 H locs cells slots Q (F0 m tgt ls rest)) : W p l e R s m args below meth c0 H locs cells slots Q (F0 m pc ls (va_rf (drf ad b v) :: rest)) := by
  by_cases h : v < 0
  · rw [drf_neg h]; exact lv_ifnonnullN hexec hb hdg (kt h)
  · rw [drf_pos h]; exact lv_ifnonnull hexec hb hdg ht (kf h)
/-! fields -/
theorem p_getN (hexec : p.tables.exec = Jvm.exec) (hb : c0.code = cc) {own ref C host : String} {T : u_T} {N ci index : Nat} {Ts : List Cond} (hts : ∀ w ∈ Ts, w.before args s = true) (hin : ∀ w ∈ u_ws C T N, w ∈ Ts) (hown : s.vm.findClass own = some m.cls) (hK : KK D clsA G s) (hP : PIC D clsA G dsc ad σ H) {ks : List (Nat × Nat)} (hd : dsc c = some (.inl (ci, ks))) (hc : clsA[ci]? = some (C, T, N)) (k : Nat) (hk : k < N) (hlink : va_Nw (.fieldLinkNest own index ref (T k).2.1 (T k).2.2.1 host) s) (hsame : ∀ x, s.fieldFound? (T k).1 (T k).2.1 (T k).2.2.1 = some x → s.fieldFound? ref (T k).2.1 (T k).2.2.1 = some x) {kd : Nat × Nat} {v : Value} (hkd : ks[k]? = some kd) (hv : fval ad σ (c + k) kd = v) (hdg : decode cc pc = .ok (.getfield index, 3))
    (kk : W p l e R s m args below meth c0 H locs cells slots Q (F0 m (pc + 3) ls (v :: rest))) : W p l e R s m args below meth c0 H locs cells slots Q (F0 m pc ls (.ref (ad c) :: rest)) :=
  va_getN hexec hb hts hin hown hK (va_P1 (hP.1 c _ hd)) 0 rfl hc k hk (va_Nw.use rfl hlink) hsame ((fvals_get hkd).trans (congrArg some hv)) hdg kk
/-- a reference array's element -/
theorem p_aald4 (hexec : p.tables.exec = Jvm.exec) (hb : c0.code = cc) (hK : KK D clsA G s) (hP : PIC D clsA G dsc ad σ H) {n b : Nat} (hd : dsc c = some (.inr (4, n, b))) {f : Nat → Int32} (hf : σ.2.2.1 c = f) {i v : Int32} (hv : rdI f n i = some v) (hdg : decode cc pc = .ok (.aaload, 1))
    (kk : W p l e R s m args below meth c0 H locs cells slots Q (F0 m (pc + 1) ls (va_rf (drf ad b v) :: rest))) : W p l e R s m args below meth c0 H locs cells slots Q (F0 m pc ls (.int i :: .ref (ad c) :: rest)) := by
  obtain ⟨h1, h2⟩ := rdI_some hv
  subst h2 hf
  exact va_aldq hexec hb hK (va_P1 (hP.1 c _ hd)) 0 4 rfl rfl h1 hdg kk
theorem p_aald6 (hexec : p.tables.exec = Jvm.exec) (hb : c0.code = cc) (hK : KK D clsA G s) (hP : PIC D clsA G dsc ad σ H) {n b : Nat} (hd : dsc c = some (.inr (6, n, b))) {f : Nat → Int32} (hf : σ.2.2.1 c = f) {i v : Int32} (hv : rdI f n i = some v) (hdg : decode cc pc = .ok (.aaload, 1))
    (kk : W p l e R s m args below meth c0 H locs cells slots Q (F0 m (pc + 1) ls (va_rf (drf ad b v) :: rest))) : W p l e R s m args below meth c0 H locs cells slots Q (F0 m pc ls (.int i :: .ref (ad c) :: rest)) := by
  obtain ⟨h1, h2⟩ := rdI_some hv
  subst h2 hf
  exact va_aldq hexec hb hK (va_P1 (hP.1 c _ hd)) 0 6 rfl rfl h1 hdg kk
/-- an index that is in range -/
def ixI (n : Nat) (i : Int32) : Option Int32 := if i < 0 ∨ n ≤ i.toNatClampNeg then none else some i
theorem ixI_some {n : Nat} {i v : Int32} (h : ixI n i = some v) : vp_in i n ∧ i = v := by
  unfold ixI at h
  split at h
  · cases h
  · next h1 => exact ⟨h1, Option.some.inj h⟩
theorem p_aald7 (hexec : p.tables.exec = Jvm.exec) (hb : c0.code = cc) (hK : KK D clsA G s) (hP : PIC D clsA G dsc ad σ H) {n b : Nat} (hd : dsc c = some (.inr (7, n, b))) {i v : Int32} (hv : ixI n i = some v) (hdg : decode cc pc = .ok (.aaload, 1))
    (kk : W p l e R s m args below meth c0 H locs cells slots Q (F0 m (pc + 1) ls (va_rf (drf ad b v) :: rest))) : W p l e R s m args below meth c0 H locs cells slots Q (F0 m pc ls (.int i :: .ref (ad c) :: rest)) := by
  obtain ⟨h1, h2⟩ := ixI_some hv
  subst h2
  rw [drf_pos (fun q => h1 (Or.inl q))] at kk
  exact va_aldq hexec hb hK (va_P1 (hP.1 c _ hd)) 0 7 rfl rfl h1 hdg kk
theorem p_aald8 (hexec : p.tables.exec = Jvm.exec) (hb : c0.code = cc) (hK : KK D clsA G s) (hP : PIC D clsA G dsc ad σ H) {n b : Nat} (hd : dsc c = some (.inr (8, n, b))) {i v : Int32} (hv : ixI n i = some v) (hdg : decode cc pc = .ok (.aaload, 1))
    (kk : W p l e R s m args below meth c0 H locs cells slots Q (F0 m (pc + 1) ls (va_rf (drf ad b v) :: rest))) : W p l e R s m args below meth c0 H locs cells slots Q (F0 m pc ls (.int i :: .ref (ad c) :: rest)) := by
  obtain ⟨h1, h2⟩ := ixI_some hv
  subst h2
  rw [drf_pos (fun q => h1 (Or.inl q))] at kk
  exact va_aldq hexec hb hK (va_P1 (hP.1 c _ hd)) 0 8 rfl rfl h1 hdg kk
/-- an array of arrays -/
theorem p_aald5 (hexec : p.tables.exec = Jvm.exec) (hb : c0.code = cc) (hK : KK D clsA G s) (hP : PIC D clsA G dsc ad σ H) {n b : Nat} (hd : dsc c = some (.inr (5, n, b))) {i v : Int32} (hv : ixI n i = some v) (hdg : decode cc pc = .ok (.aaload, 1))
    (kk : W p l e R s m args below meth c0 H locs cells slots Q (F0 m (pc + 1) ls (va_rf (drf ad b v) :: rest))) : W p l e R s m args below meth c0 H locs cells slots Q (F0 m pc ls (.int i :: .ref (ad c) :: rest)) := by
  obtain ⟨h1, h2⟩ := ixI_some hv
  subst h2
  have h0 : ¬ i < 0 := fun q => h1 (Or.inl q)
  rw [drf_pos h0] at kk
  have hlt : i.toNatClampNeg < n := Nat.not_le.mp fun q => h1 (Or.inr q)
  exact W.aald (v := va_rf (some (ad (b + 16 * i.toNatClampNeg)))) (ty := .array (.object "ShutPasses$Road")) hexec hb (hP.1 c _ hd) ((hK.2 5 _ rfl).1 n (fun j => va_rf (some (ad (b + 16 * j))))) rfl (fun q => by cases q) (by show ¬ (i < 0 ∨ (arrV _ _ _).slots.size ≤ _); rw [arrV_size]; exact h1) (by show (arrV (G 5) n (fun j => va_rf (some (ad (b + 16 * j))))).slots[_]? = _; rw [arrV_read _ _ hlt]) rfl rfl hdg kk
/-- a pooled object's field: the object's number is checked -/
theorem pool_ok {n : Nat} {f : Nat → Int32} {v h : Int32} (hv : rdI f n v = some h) : ¬ v < 0 ∧ v.toNatClampNeg < n ∧ f v.toNatClampNeg = h := by
  obtain ⟨h1, h2⟩ := rdI_some hv
  exact ⟨fun q => h1 (Or.inl q), Nat.not_le.mp fun q => h1 (Or.inr q), h2⟩
theorem p_null (b : Nat) (k : W p l e R s m args below meth c0 H locs cells slots Q (F0 m pc ls (va_rf (drf ad b (-1)) :: rest))) : W p l e R s m args below meth c0 H locs cells slots Q (F0 m pc ls (.null :: rest)) := by
  rw [drf_neg (by decide)] at k
  exact k
/-- a reference that is known to be there -/
theorem p_nn {b : Nat} {v : Int32} (h : ¬ v < 0) (k : W p l e R s m args below meth c0 H locs cells slots Q (F0 m pc ls (.ref (ad (b + 16 * v.toNatClampNeg)) :: rest))) : W p l e R s m args below meth c0 H locs cells slots Q (F0 m pc ls (va_rf (drf ad b v) :: rest)) := by
  rw [drf_pos h]
  exact k
theorem p_nn0 {b : Nat} {v : Int32} (h : v = 0) (k : W p l e R s m args below meth c0 H locs cells slots Q (F0 m pc ls (.ref (ad b) :: rest))) : W p l e R s m args below meth c0 H locs cells slots Q (F0 m pc ls (va_rf (drf ad b v) :: rest)) := by
  subst h
  exact k
def ckz (v : Int32) : Option Unit := if v = 0 then some () else none
theorem ckz_some {v : Int32} {u : Unit} (h : ckz v = some u) : v = 0 := by
  unfold ckz at h
  split at h
  · assumption
  · cases h
end XR
