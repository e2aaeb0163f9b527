/-! rows over a picture -/
/-- what holds all through a method: its picture's tables -/
def KK (D : va_G) (cl : List vw_C) (G : Nat → ClassId) (U : State) : Prop := va_K D cl [(G 0, .int), (G 1, .long), (G 2, .boolean), (G 3, .byte), (G 4, .object "ShutPasses$Road"), (G 5, .array (.object "ShutPasses$Road")), (G 6, .object "java/lang/Object"), (G 7, .object "ShutPasses$Plan"), (G 8, .object "java/lang/String")] U
theorem KK.moved {D : va_G} {cl : List vw_C} {G : Nat → ClassId} {u U : State} (hvm : u.vm.Alike U.vm) (h : KK D cl G u) : KK D cl G U := va_K.moved hvm h
section ROWS
variable {p : Program} {l : Launch} {e : Env} {R : Room} {s : State} {m : MethodId} {args : Array Value} {below : List Frame} {meth : Method} {c0 : Code} {H : Heap} {locs : List Loc} {cells slots : Nat} {Q : State → Prop}
variable {cc : ByteArray} {pc : Nat} {ls : Array Slot} {rest : List Value} {D : va_G} {cl : List vw_C} {A : Nat → Prop} {H0 : Heap}
variable {G : Nat → ClassId} {dsc : Nat → Option Dsc} {ad : Nat → Nat} {σ : Sto} {c : Nat}
theorem va_P1 {x : Nat × va_E} (h : va_at D cl x H) : va_P D cl [x] H := by
  intro k q hk
  match k, hk with
  | 0, hk => cases hk; exact h
  | k + 1, hk => simp at hk
theorem p_get (hexec : p.tables.exec = Jvm.exec) (hb : c0.code = cc) {own ref C : String} {T : u_T} {N ci index : Nat} {Ts : List Cond} (hts : ∀ w ∈ Ts, w.before args s = true) (hin : ∀ w ∈ u_ws C T N, w ∈ Ts) (hown : s.vm.findClass own = some m.cls) (hK : KK D cl G s) (hP : PIC D cl G dsc ad σ H) {ks : List (Nat × Nat)} (hd : dsc c = some (.inl (ci, ks))) (hc : cl[ci]? = some (C, T, N)) (k : Nat) (hk : k < N) (hlink : (Cond.fieldLink own index ref (T k).2.1 (T k).2.2.1).before args s = true) (hsame : ∀ x, s.fieldFound? (T k).1 (T k).2.1 (T k).2.2.1 = some x → s.fieldFound? ref (T k).2.1 (T k).2.2.1 = some x) {kd : Nat × Nat} {v : Value} (hkd : ks[k]? = some kd) (hv : fval ad σ (c + k) kd = v) (hdg : decode cc pc = .ok (.getfield index, 3))
    (kk : W p l e R s m args below meth c0 H locs cells slots Q (F0 m (pc + 3) ls (v :: rest))) : W p l e R s m args below meth c0 H locs cells slots Q (F0 m pc ls (.ref (ad c) :: rest)) :=
  va_get hexec hb hts hin hown hK (va_P1 (hP.1 c _ hd)) 0 rfl hc k hk hlink hsame ((fvals_get hkd).trans (congrArg some hv)) hdg kk
/-- a scalar's write: an int -/
theorem p_puti (hexec : p.tables.exec = Jvm.exec) (hb : c0.code = cc) {own ref C : String} {T : u_T} {N ci index : Nat} {Ts : List Cond} (hts : ∀ w ∈ Ts, w.before args s = true) (hin : ∀ w ∈ u_ws C T N, w ∈ Ts) (ty0 : Nat → FieldType) (hty : ∀ k, k < N → parseFieldDescriptor (T k).2.2.1 = some (ty0 k)) (hnm : ∀ a, a < N → ∀ b, b < N → a ≠ b → (T a).2.1 ≠ (T b).2.1) (hown : s.vm.findClass own = some m.cls) (hK : KK D cl G s) (hP : PIC D cl G dsc ad σ H) (hS0 : va_S A H0 H locs) (hA : A (ad c)) {ks : List (Nat × Nat)} (hd : dsc c = some (.inl (ci, ks))) (hc : cl[ci]? = some (C, T, N)) (k : Nat) (hk : k < N) (hlink : (Cond.fieldLink own index ref (T k).2.1 (T k).2.2.1).before args s = true) (hsame : ∀ x, s.fieldFound? (T k).1 (T k).2.1 (T k).2.2.1 = some x → s.fieldFound? ref (T k).2.1 (T k).2.2.1 = some x) (hfin : (T k).2.2.2 = false) {ty : FieldType} {x : Int32} (hty1 : parseFieldDescriptor (T k).2.2.1 = some ty) (hn : narrow ty (.int x) = .int x) (hfit : fits ty (.int x) = true) {z : Nat} (hkd : ks[k]? = some (0, z)) {σ' : Sto} (hσ : zI σ (c + k) x = σ')
    (hdg : decode cc pc = .ok (.putfield index, 3)) (kk : ∀ (H1 : Heap) (locs1 : List Loc), PIC D cl G dsc ad σ' H1 → va_S A H0 H1 locs1 → W p l e R s m args below meth c0 H1 locs1 cells slots Q (F0 m (pc + 3) ls rest)) : W p l e R s m args below meth c0 H locs cells slots Q (F0 m pc ls (.int x :: .ref (ad c) :: rest)) := by
  have hap := va_apart (own := own) hts hin ty0 hty hnm hK hc
  have hat := hP.1 c _ hd
  obtain ⟨r, h1, cell, q1, q2, q3, q4⟩ := hat
  have hr : r = (C, T, N) := Option.some.inj (h1.symm.trans hc)
  subst hr
  obtain ⟨hS, hfc, kC, hkC, hkind⟩ := hK.1 ci _ hc
  obtain ⟨cf, kf, fi, f, hi, hsl⟩ := hS k hk
  have hlay := hts _ (hin _ (u_in_lay hk))
  unfold u_lay at hlay
  rw [if_neg (by rw [hfin]; decide)] at hlay
  have hst := (u_facts hfc hkC (u_lays hts hin hk) hi).1
  have h6 := u_store hfc hkC hkind hlay hi hty1 hn hfit
  have hlen : k < (fvals ad σ c ks).length := by rw [fvals_len]; exact (List.getElem?_eq_some_iff.mp hkd).1
  refine W.putK hexec hb (f := f) ⟨hown, hlink, ⟨_, _, _, hsame _ hi⟩, hst⟩ (by rw [q2]; exact h6) q1 q3 (by rw [hsl]; exact k2_hasslot (q4 k hk)) rfl rfl hdg fun H' e1 e2 e3 => ?_
  rw [hsl] at e1 ⊢
  subst hσ
  refine kk H' _ (hP.put (offS_zI σ (c + k) x) hd (by show k < ks.length; exact (List.getElem?_eq_some_iff.mp hkd).1) ?_ e3) (hS0.put e2 e3 hA)
  have hcon : con G ad (zI σ (c + k) x) c (.inl (ci, ks)) = .inr (ci, (fvals ad σ c ks).set k (.int x)) := by
    show (Sum.inr (ci, fvals ad (zI σ (c + k) x) c ks) : va_E) = _
    rw [fvals_set (offS_zI σ (c + k) x) hkd]
    simp [fval, zI]
  rw [hcon]
  exact ⟨_, hc, t_OB.to (V := updV (vp_V (fvals ad σ c ks)) k (.int x)) ⟨_, e1, q2, q3, t_set q4 hap hk (.int x)⟩ (fun j _ => vp_updV_set hlen (.int x) j)⟩
theorem p_putl (hexec : p.tables.exec = Jvm.exec) (hb : c0.code = cc) {own ref C : String} {T : u_T} {N ci index : Nat} {Ts : List Cond} (hts : ∀ w ∈ Ts, w.before args s = true) (hin : ∀ w ∈ u_ws C T N, w ∈ Ts) (ty0 : Nat → FieldType) (hty : ∀ k, k < N → parseFieldDescriptor (T k).2.2.1 = some (ty0 k)) (hnm : ∀ a, a < N → ∀ b, b < N → a ≠ b → (T a).2.1 ≠ (T b).2.1) (hown : s.vm.findClass own = some m.cls) (hK : KK D cl G s) (hP : PIC D cl G dsc ad σ H) (hS0 : va_S A H0 H locs) (hA : A (ad c)) {ks : List (Nat × Nat)} (hd : dsc c = some (.inl (ci, ks))) (hc : cl[ci]? = some (C, T, N)) (k : Nat) (hk : k < N) (hlink : (Cond.fieldLink own index ref (T k).2.1 (T k).2.2.1).before args s = true) (hsame : ∀ x, s.fieldFound? (T k).1 (T k).2.1 (T k).2.2.1 = some x → s.fieldFound? ref (T k).2.1 (T k).2.2.1 = some x) (hfin : (T k).2.2.2 = false) {x : Int64} (hty1 : parseFieldDescriptor (T k).2.2.1 = some .long) {z : Nat} (hkd : ks[k]? = some (1, z)) {σ' : Sto} (hσ : zL σ (c + k) x = σ')
    (hdg : decode cc pc = .ok (.putfield index, 3)) (kk : ∀ (H1 : Heap) (locs1 : List Loc), PIC D cl G dsc ad σ' H1 → va_S A H0 H1 locs1 → W p l e R s m args below meth c0 H1 locs1 cells slots Q (F0 m (pc + 3) ls rest)) : W p l e R s m args below meth c0 H locs cells slots Q (F0 m pc ls (.long x :: .ref (ad c) :: rest)) := by
  have hap := va_apart (own := own) hts hin ty0 hty hnm hK hc
  have hat := hP.1 c _ hd
  obtain ⟨r, h1, cell, q1, q2, q3, q4⟩ := hat
  have hr : r = (C, T, N) := Option.some.inj (h1.symm.trans hc)
  subst hr
  obtain ⟨hS, hfc, kC, hkC, hkind⟩ := hK.1 ci _ hc
  obtain ⟨cf, kf, fi, f, hi, hsl⟩ := hS k hk
  have hlay := hts _ (hin _ (u_in_lay hk))
  unfold u_lay at hlay
  rw [if_neg (by rw [hfin]; decide)] at hlay
  have hst := (u_facts hfc hkC (u_lays hts hin hk) hi).1
  have h6 := u_store (v := .long x) hfc hkC hkind hlay hi hty1 rfl rfl
  have hlen : k < (fvals ad σ c ks).length := by rw [fvals_len]; exact (List.getElem?_eq_some_iff.mp hkd).1
  refine W.putK hexec hb (f := f) ⟨hown, hlink, ⟨_, _, _, hsame _ hi⟩, hst⟩ (by rw [q2]; exact h6) q1 q3 (by rw [hsl]; exact k2_hasslot (q4 k hk)) rfl rfl hdg fun H' e1 e2 e3 => ?_
  rw [hsl] at e1 ⊢
  subst hσ
  refine kk H' _ (hP.put (offS_zL σ (c + k) x) hd (by show k < ks.length; exact (List.getElem?_eq_some_iff.mp hkd).1) ?_ e3) (hS0.put e2 e3 hA)
  have hcon : con G ad (zL σ (c + k) x) c (.inl (ci, ks)) = .inr (ci, (fvals ad σ c ks).set k (.long x)) := by
    show (Sum.inr (ci, fvals ad (zL σ (c + k) x) c ks) : va_E) = _
    rw [fvals_set (offS_zL σ (c + k) x) hkd]
    simp [fval, zL]
  rw [hcon]
  exact ⟨_, hc, t_OB.to (V := updV (vp_V (fvals ad σ c ks)) k (.long x)) ⟨_, e1, q2, q3, t_set q4 hap hk (.long x)⟩ (fun j _ => vp_updV_set hlen (.long x) j)⟩
theorem p_iald (hexec : p.tables.exec = Jvm.exec) (hb : c0.code = cc) (hK : KK D cl G s) (hP : PIC D cl G dsc ad σ H) {n z : Nat} (hd : dsc c = some (.inr (0, n, z))) {f : Nat → Int32} (hf : σ.2.2.1 c = f) {i v : Int32} (hv : rdI f n i = some v) (hdg : decode cc pc = .ok (.iaload, 1))
    (kk : W p l e R s m args below meth c0 H locs cells slots Q (F0 m (pc + 1) ls (.int v :: rest))) : W p l e R s m args below meth c0 H locs cells slots Q (F0 m pc ls (.int i :: .ref (ad c) :: rest)) := by
  obtain ⟨h1, h2⟩ := rdI_some hv
  subst h2 hf
  exact va_iald hexec hb hK (va_P1 (hP.1 c _ hd)) 0 0 rfl rfl h1 hdg kk
theorem p_zald (hexec : p.tables.exec = Jvm.exec) (hb : c0.code = cc) (hK : KK D cl G s) (hP : PIC D cl G dsc ad σ H) {n z : Nat} (hd : dsc c = some (.inr (2, n, z))) {f : Nat → Int32} (hf : σ.2.2.1 c = f) {i v : Int32} (hv : rdI f n i = some v) (hdg : decode cc pc = .ok (.baload, 1))
    (kk : W p l e R s m args below meth c0 H locs cells slots Q (F0 m (pc + 1) ls (.int v :: rest))) : W p l e R s m args below meth c0 H locs cells slots Q (F0 m pc ls (.int i :: .ref (ad c) :: rest)) := by
  obtain ⟨h1, h2⟩ := rdI_some hv
  subst h2 hf
  exact va_zald hexec hb hK (va_P1 (hP.1 c _ hd)) 0 2 rfl rfl h1 hdg kk
theorem p_bald (hexec : p.tables.exec = Jvm.exec) (hb : c0.code = cc) (hK : KK D cl G s) (hP : PIC D cl G dsc ad σ H) {n z : Nat} (hd : dsc c = some (.inr (3, n, z))) {f : Nat → Int32} (hf : σ.2.2.1 c = f) {i v : Int32} (hv : rdI f n i = some v) (hdg : decode cc pc = .ok (.baload, 1))
    (kk : W p l e R s m args below meth c0 H locs cells slots Q (F0 m (pc + 1) ls (.int v :: rest))) : W p l e R s m args below meth c0 H locs cells slots Q (F0 m pc ls (.int i :: .ref (ad c) :: rest)) := by
  obtain ⟨h1, h2⟩ := rdI_some hv
  subst h2 hf
  exact va_bald hexec hb hK (va_P1 (hP.1 c _ hd)) 0 3 rfl rfl h1 hdg kk
theorem p_lald (hexec : p.tables.exec = Jvm.exec) (hb : c0.code = cc) (hK : KK D cl G s) (hP : PIC D cl G dsc ad σ H) {n z : Nat} (hd : dsc c = some (.inr (1, n, z))) {f : Nat → Int64} (hf : σ.2.2.2.1 c = f) {i : Int32} {v : Int64} (hv : rdL f n i = some v) (hdg : decode cc pc = .ok (.laload, 1))
    (kk : W p l e R s m args below meth c0 H locs cells slots Q (F0 m (pc + 1) ls (.long v :: rest))) : W p l e R s m args below meth c0 H locs cells slots Q (F0 m pc ls (.int i :: .ref (ad c) :: rest)) := by
  obtain ⟨h1, h2⟩ := rdL_some hv
  subst h2 hf
  exact va_lald hexec hb hK (va_P1 (hP.1 c _ hd)) 0 1 rfl rfl h1 hdg kk
theorem p_iast (hexec : p.tables.exec = Jvm.exec) (hb : c0.code = cc) (hK : KK D cl G s) (hP : PIC D cl G dsc ad σ H) (hS : va_S A H0 H locs) (hA : A (ad c)) {n z : Nat} (hd : dsc c = some (.inr (0, n, z))) {f g : Nat → Int32} (hf : σ.2.2.1 c = f) {i x : Int32} (hv : wrI f n i x = some g) {σ' : Sto} (hσ : aI σ c g = σ') (hdg : decode cc pc = .ok (.iastore, 1))
    (kk : ∀ (H1 : Heap) (locs1 : List Loc), PIC D cl G dsc ad σ' H1 → va_S A H0 H1 locs1 → W p l e R s m args below meth c0 H1 locs1 cells slots Q (F0 m (pc + 1) ls rest)) : W p l e R s m args below meth c0 H locs cells slots Q (F0 m pc ls (.int x :: .int i :: .ref (ad c) :: rest)) := by
  obtain ⟨h1, h2⟩ := wrI_some hv
  subst hf hσ h2
  refine W.iast hexec hb (hP.1 c _ hd) ((hK.2 0 _ rfl).1 n (fun j => .int (σ.2.2.1 c j))) (fun q => by cases q) (by show ¬ (i < 0 ∨ (arrV _ _ _).slots.size ≤ _); rw [arrV_size]; exact h1) rfl rfl hdg fun H1 e z oq => ?_
  refine kk H1 _ (hP.put (k := 0) (offS_aI σ c _) hd Nat.one_pos ?_ oq) (hS.put z oq hA)
  show H1[ad c]? = some (vp_cell _ _)
  rw [e]
  simp only [con, cona, aI, if_true]
  rw [vp_cell_i, vp_cell_i, arrV_store]
  congr 2
  funext q
  by_cases hq : q = i.toNatClampNeg
  · subst hq
    simp [updV, upd]
  · simp [updV, upd, hq]
theorem p_zast (hexec : p.tables.exec = Jvm.exec) (hb : c0.code = cc) (hK : KK D cl G s) (hP : PIC D cl G dsc ad σ H) (hS : va_S A H0 H locs) (hA : A (ad c)) {n z : Nat} (hd : dsc c = some (.inr (2, n, z))) {f g : Nat → Int32} (hf : σ.2.2.1 c = f) {i x : Int32} (hv : wrI f n i (vp_nar .boolean x) = some g) {σ' : Sto} (hσ : aI σ c g = σ') (hdg : decode cc pc = .ok (.bastore, 1))
    (kk : ∀ (H1 : Heap) (locs1 : List Loc), PIC D cl G dsc ad σ' H1 → va_S A H0 H1 locs1 → W p l e R s m args below meth c0 H1 locs1 cells slots Q (F0 m (pc + 1) ls rest)) : W p l e R s m args below meth c0 H locs cells slots Q (F0 m pc ls (.int x :: .int i :: .ref (ad c) :: rest)) := by
  obtain ⟨h1, h2⟩ := wrI_some hv
  subst hf hσ h2
  refine W.zast hexec hb (hP.1 c _ hd) ((hK.2 2 _ rfl).1 n (fun j => .int (σ.2.2.1 c j))) (fun q => by cases q) (by show ¬ (i < 0 ∨ (arrV _ _ _).slots.size ≤ _); rw [arrV_size]; exact h1) rfl rfl hdg fun H1 e z oq => ?_
  refine kk H1 _ (hP.put (k := 0) (offS_aI σ c _) hd Nat.one_pos ?_ oq) (hS.put z oq hA)
  show H1[ad c]? = some (vp_cell _ _)
  rw [e]
  simp only [con, cona, aI, if_true]
  rw [vp_cell_i, vp_cell_i, arrV_store]
  congr 2
  funext q
  by_cases hq : q = i.toNatClampNeg
  · subst hq
    simp [updV, upd]
    rfl
  · simp [updV, upd, hq]
theorem p_bast (hexec : p.tables.exec = Jvm.exec) (hb : c0.code = cc) (hK : KK D cl G s) (hP : PIC D cl G dsc ad σ H) (hS : va_S A H0 H locs) (hA : A (ad c)) {n z : Nat} (hd : dsc c = some (.inr (3, n, z))) {f g : Nat → Int32} (hf : σ.2.2.1 c = f) {i x : Int32} (hv : wrI f n i (vp_nar .byte x) = some g) {σ' : Sto} (hσ : aI σ c g = σ') (hdg : decode cc pc = .ok (.bastore, 1))
    (kk : ∀ (H1 : Heap) (locs1 : List Loc), PIC D cl G dsc ad σ' H1 → va_S A H0 H1 locs1 → W p l e R s m args below meth c0 H1 locs1 cells slots Q (F0 m (pc + 1) ls rest)) : W p l e R s m args below meth c0 H locs cells slots Q (F0 m pc ls (.int x :: .int i :: .ref (ad c) :: rest)) := by
  obtain ⟨h1, h2⟩ := wrI_some hv
  subst hf hσ h2
  refine W.bast hexec hb (hP.1 c _ hd) ((hK.2 3 _ rfl).1 n (fun j => .int (σ.2.2.1 c j))) (fun q => by cases q) (by show ¬ (i < 0 ∨ (arrV _ _ _).slots.size ≤ _); rw [arrV_size]; exact h1) rfl rfl hdg fun H1 e z oq => ?_
  refine kk H1 _ (hP.put (k := 0) (offS_aI σ c _) hd Nat.one_pos ?_ oq) (hS.put z oq hA)
  show H1[ad c]? = some (vp_cell _ _)
  rw [e]
  simp only [con, cona, aI, if_true]
  rw [vp_cell_i, vp_cell_i, arrV_store]
  congr 2
  funext q
  by_cases hq : q = i.toNatClampNeg
  · subst hq
    simp [updV, upd]
    try rfl
  · simp [updV, upd, hq]
theorem p_last (hexec : p.tables.exec = Jvm.exec) (hb : c0.code = cc) (hK : KK D cl G s) (hP : PIC D cl G dsc ad σ H) (hS : va_S A H0 H locs) (hA : A (ad c)) {n z : Nat} (hd : dsc c = some (.inr (1, n, z))) {f g : Nat → Int64} (hf : σ.2.2.2.1 c = f) {i : Int32} {x : Int64} (hv : wrL f n i x = some g) {σ' : Sto} (hσ : aL σ c g = σ') (hdg : decode cc pc = .ok (.lastore, 1))
    (kk : ∀ (H1 : Heap) (locs1 : List Loc), PIC D cl G dsc ad σ' H1 → va_S A H0 H1 locs1 → W p l e R s m args below meth c0 H1 locs1 cells slots Q (F0 m (pc + 1) ls rest)) : W p l e R s m args below meth c0 H locs cells slots Q (F0 m pc ls (.long x :: .int i :: .ref (ad c) :: rest)) := by
  obtain ⟨h1, h2⟩ := wrL_some hv
  subst hf hσ h2
  refine W.last hexec hb (hP.1 c _ hd) ((hK.2 1 _ rfl).1 n (fun j => .long (σ.2.2.2.1 c j))) (fun q => by cases q) (by show ¬ (i < 0 ∨ (arrV _ _ _).slots.size ≤ _); rw [arrV_size]; exact h1) rfl rfl hdg fun H1 e z oq => ?_
  refine kk H1 _ (hP.put (k := 0) (offS_aL σ c _) hd Nat.one_pos ?_ oq) (hS.put z oq hA)
  show H1[ad c]? = some (vp_cell _ _)
  rw [e]
  simp only [con, cona, aL, if_true]
  rw [vp_cell_l, vp_cell_l, arrV_store]
  congr 2
  funext q
  by_cases hq : q = i.toNatClampNeg
  · subst hq
    simp [updV, vp_updL]
  · simp [updV, vp_updL, hq]
theorem p_alen (hexec : p.tables.exec = Jvm.exec) (hb : c0.code = cc) (hK : KK D cl G s) (hP : PIC D cl G dsc ad σ H) {t n z : Nat} (hd : dsc c = some (.inr (t, n, z))) (ht : t < 9) {v : Int32} (hv : Int32.ofNat n = v) (hdg : decode cc pc = .ok (.arraylength, 1))
    (kk : W p l e R s m args below meth c0 H locs cells slots Q (F0 m (pc + 1) ls (.int v :: rest))) : W p l e R s m args below meth c0 H locs cells slots Q (F0 m pc ls (.ref (ad c) :: rest)) := by
  have h0 := hP.1 c _ hd
  match t, ht, h0 with
  | 0, _, h0 => exact va_alen (ty := .int) hexec hb hK (va_P1 h0) 0 0 rfl rfl hv hdg kk
  | 1, _, h0 => exact va_alen (ty := .long) hexec hb hK (va_P1 h0) 0 1 rfl rfl hv hdg kk
  | 2, _, h0 => exact va_alen (ty := .boolean) hexec hb hK (va_P1 h0) 0 2 rfl rfl hv hdg kk
  | 3, _, h0 => exact va_alen (ty := .byte) hexec hb hK (va_P1 h0) 0 3 rfl rfl hv hdg kk
  | 4, _, h0 => exact va_alen (ty := .object "ShutPasses$Road") hexec hb hK (va_P1 h0) 0 4 rfl rfl hv hdg kk
  | 5, _, h0 => exact va_alen (ty := .array (.object "ShutPasses$Road")) hexec hb hK (va_P1 h0) 0 5 rfl rfl hv hdg kk
  | 6, _, h0 => exact va_alen (ty := .object "java/lang/Object") hexec hb hK (va_P1 h0) 0 6 rfl rfl hv hdg kk
  | 7, _, h0 => exact va_alen (ty := .object "ShutPasses$Plan") hexec hb hK (va_P1 h0) 0 7 rfl rfl hv hdg kk
  | 8, _, h0 => exact va_alen (ty := .object "java/lang/String") hexec hb hK (va_P1 h0) 0 8 rfl rfl hv hdg kk
/-! contracts: of a method that makes nothing; its answer and the store behind it are given -/
theorem PA_sub {H1 : Heap} {locs1 : List Loc} (hA : ∀ (q : Nat), PA dsc ad H0.size q → A q) (hS : va_S A H0 H1 locs1) : ∀ q, PA dsc ad H1.size q → A q := by
  intro q h
  rcases h with h | h
  · exact hA q (Or.inl h)
  · exact hA q (Or.inr (Nat.le_trans hS.1 h))
def CtI (l : Launch) (D : va_G) (cl : List vw_C) (G : Nat → ClassId) (dsc : Nat → Option Dsc) (ad : Nat → Nat) (y : MethodName) (ws : List Cond) (rm : Room) (As : List Value) (σ : Sto) (r : Int32) (σ1 : Sto) : Prop :=
  ∀ sz : Nat, Met l y ws rm (va_Pc As (fun U => U.heap.size = sz ∧ PIC D cl G dsc ad σ U.heap ∧ KK D cl G U)) (va_Qi (fun x (_ : Unit) => x = r) (fun _ t => PIC D cl G dsc ad σ1 t.heap ∧ KK D cl G t) (PA dsc ad sz)) 0 0 (PA dsc ad sz)
def CtL (l : Launch) (D : va_G) (cl : List vw_C) (G : Nat → ClassId) (dsc : Nat → Option Dsc) (ad : Nat → Nat) (y : MethodName) (ws : List Cond) (rm : Room) (As : List Value) (σ : Sto) (r : Int64) (σ1 : Sto) : Prop :=
  ∀ sz : Nat, Met l y ws rm (va_Pc As (fun U => U.heap.size = sz ∧ PIC D cl G dsc ad σ U.heap ∧ KK D cl G U)) (va_Ql (fun x (_ : Unit) => x = r) (fun _ t => PIC D cl G dsc ad σ1 t.heap ∧ KK D cl G t) (PA dsc ad sz)) 0 0 (PA dsc ad sz)
def CtV (l : Launch) (D : va_G) (cl : List vw_C) (G : Nat → ClassId) (dsc : Nat → Option Dsc) (ad : Nat → Nat) (y : MethodName) (ws : List Cond) (rm : Room) (As : List Value) (σ : Sto) (σ1 : Sto) : Prop :=
  ∀ sz : Nat, Met l y ws rm (va_Pc As (fun U => U.heap.size = sz ∧ PIC D cl G dsc ad σ U.heap ∧ KK D cl G U)) (va_Qv (fun (_ : Unit) => True) (fun _ t => PIC D cl G dsc ad σ1 t.heap ∧ KK D cl G t) (PA dsc ad sz)) 0 0 (PA dsc ad sz)
theorem Ct_blind {As : List Value} {sz : Nat} : FrameBlind (va_Pc As (fun U => U.heap.size = sz ∧ PIC D cl G dsc ad σ U.heap ∧ KK D cl G U)) := fun a U g mk q => by
  obtain ⟨q0, q1, qP, qK⟩ := q
  exact ⟨q0, q1, qP, KK.moved (u := U) (U := U.calling g mk a) (Vm.Alike.refl U.vm) qK⟩
theorem PIC.recv {ci : Nat} {ks : List (Nat × Nat)} {q : vw_C} (hK : KK D cl G s) (hP : PIC D cl G dsc ad σ H) (hd : dsc c = some (.inl (ci, ks))) (hc : cl[ci]? = some q) : ∃ cell : Cell, H[ad c]? = some cell ∧ cell.vm.isStatics = false ∧ s.vm.findClass q.1 = some cell.cls :=
  va_recv (fs := fvals ad σ c ks) (q0 := 0) hK (va_P1 (hP.1 c _ hd)) hc rfl
section CALLS
variable {y : MethodName} {bytes : ByteArray} {maxL nL n index : Nat} {ret : Option FieldType} {ws Ts : List Cond} {rm : Room} {own C : String} {As st0 : List Value} {σ1 : Sto} {ci : Nat} {ks : List (Nat × Nat)} {q : vw_C}
theorem p_callI (Sx : CallFix p m c0 cc nL s args Ts own) (hK : KK D cl G s) (hP : PIC D cl G dsc ad σ H) (hS : va_S A H0 H locs) (hA : ∀ (q : Nat), PA dsc ad H0.size q → A q) {r : Int32} (hM : CtI l D cl G dsc ad y ws rm (.ref (ad c) :: As) σ r σ1) (cw : CallW R s args own C index y bytes maxL ret ws rm 0 0 n) (hd : dsc c = some (.inl (ci, ks))) (hc : cl[ci]? = some q) (hC : q.1 = C)
    (hn : As.length = n) (hsize : ls.size = nL) (hstack : st0 = As.reverse ++ .ref (ad c) :: rest) (hW : (rest.map fun v => v.category).sum ≤ 8) (hdg : decode cc pc = .ok (.invokevirtual index, 3)) (hf : cells ≤ R.cells ∧ slots ≤ R.slots)
    (kk : ∀ (H1 : Heap) (locs1 : List Loc), PIC D cl G dsc ad σ1 H1 → va_S A H0 H1 locs1 → W p l e R s m args below meth c0 H1 locs1 cells slots Q (F0 m (pc + 3) ls (.int r :: rest))) : W p l e R s m args below meth c0 H locs cells slots Q (F0 m pc ls st0) := by
  subst hC
  have hsub := PA_sub hA hS
  refine va_calli (va_runV (As := As) (rest := rest) Sx (hM H.size) cw ⟨Ct_blind, PIC.recv hK hP hd hc, fun U hU hW => ⟨rfl, by rw [hU], by rw [hU]; exact hP, KK.moved hW.alike hK⟩⟩ rfl hn hsize hstack (lv_room hW) hdg ⟨hf.1, hf.2⟩) hS (fun q _ h => hsub q h) hsub (fun r' u t H1 locs1 ht hvm hr hB hz hk hS1 => ?_)
  subst hr
  obtain ⟨hP1, -⟩ := hB
  rw [ht] at hP1
  exact kk H1 locs1 hP1 hS1
theorem p_callL (Sx : CallFix p m c0 cc nL s args Ts own) (hK : KK D cl G s) (hP : PIC D cl G dsc ad σ H) (hS : va_S A H0 H locs) (hA : ∀ (q : Nat), PA dsc ad H0.size q → A q) {r : Int64} (hM : CtL l D cl G dsc ad y ws rm (.ref (ad c) :: As) σ r σ1) (cw : CallW R s args own C index y bytes maxL ret ws rm 0 0 n) (hd : dsc c = some (.inl (ci, ks))) (hc : cl[ci]? = some q) (hC : q.1 = C)
    (hn : As.length = n) (hsize : ls.size = nL) (hstack : st0 = As.reverse ++ .ref (ad c) :: rest) (hW : (rest.map fun v => v.category).sum ≤ 8) (hdg : decode cc pc = .ok (.invokevirtual index, 3)) (hf : cells ≤ R.cells ∧ slots ≤ R.slots)
    (kk : ∀ (H1 : Heap) (locs1 : List Loc), PIC D cl G dsc ad σ1 H1 → va_S A H0 H1 locs1 → W p l e R s m args below meth c0 H1 locs1 cells slots Q (F0 m (pc + 3) ls (.long r :: rest))) : W p l e R s m args below meth c0 H locs cells slots Q (F0 m pc ls st0) := by
  subst hC
  have hsub := PA_sub hA hS
  refine va_calll (va_runV (As := As) (rest := rest) Sx (hM H.size) cw ⟨Ct_blind, PIC.recv hK hP hd hc, fun U hU hW => ⟨rfl, by rw [hU], by rw [hU]; exact hP, KK.moved hW.alike hK⟩⟩ rfl hn hsize hstack (lv_room hW) hdg ⟨hf.1, hf.2⟩) hS (fun q _ h => hsub q h) hsub (fun r' u t H1 locs1 ht hvm hr hB hz hk hS1 => ?_)
  subst hr
  obtain ⟨hP1, -⟩ := hB
  rw [ht] at hP1
  exact kk H1 locs1 hP1 hS1
theorem p_callV (Sx : CallFix p m c0 cc nL s args Ts own) (hK : KK D cl G s) (hP : PIC D cl G dsc ad σ H) (hS : va_S A H0 H locs) (hA : ∀ (q : Nat), PA dsc ad H0.size q → A q) (hM : CtV l D cl G dsc ad y ws rm (.ref (ad c) :: As) σ σ1) (cw : CallW R s args own C index y bytes maxL ret ws rm 0 0 n) (hd : dsc c = some (.inl (ci, ks))) (hc : cl[ci]? = some q) (hC : q.1 = C)
    (hn : As.length = n) (hsize : ls.size = nL) (hstack : st0 = As.reverse ++ .ref (ad c) :: rest) (hW : (rest.map fun v => v.category).sum ≤ 8) (hdg : decode cc pc = .ok (.invokevirtual index, 3)) (hf : cells ≤ R.cells ∧ slots ≤ R.slots)
    (kk : ∀ (H1 : Heap) (locs1 : List Loc), PIC D cl G dsc ad σ1 H1 → va_S A H0 H1 locs1 → W p l e R s m args below meth c0 H1 locs1 cells slots Q (F0 m (pc + 3) ls rest)) : W p l e R s m args below meth c0 H locs cells slots Q (F0 m pc ls st0) := by
  subst hC
  have hsub := PA_sub hA hS
  refine va_callv (va_runV (As := As) (rest := rest) Sx (hM H.size) cw ⟨Ct_blind, PIC.recv hK hP hd hc, fun U hU hW => ⟨rfl, by rw [hU], by rw [hU]; exact hP, KK.moved hW.alike hK⟩⟩ rfl hn hsize hstack (lv_room hW) hdg ⟨hf.1, hf.2⟩) hS (fun q _ h => hsub q h) hsub (fun u t H1 locs1 ht hvm hr hB hz hk hS1 => ?_)
  obtain ⟨hP1, -⟩ := hB
  rw [ht] at hP1
  exact kk H1 locs1 hP1 hS1
theorem p_callSI (Sx : CallFix p m c0 cc nL s args Ts own) (hK : KK D cl G s) (hP : PIC D cl G dsc ad σ H) (hS : va_S A H0 H locs) (hA : ∀ (q : Nat), PA dsc ad H0.size q → A q) {r : Int32} (hM : CtI l D cl G dsc ad y ws rm As σ r σ1) (cw : CallB R s args own index y bytes maxL ret ws rm 0 0 n ∧ (Cond.static y).before args s = true)
    (hn : As.length = n) (hsize : ls.size = nL) (hstack : st0 = As.reverse ++ rest) (hW : (rest.map fun v => v.category).sum ≤ 8) (hdg : decode cc pc = .ok (.invokestatic index, 3)) (hf : cells ≤ R.cells ∧ slots ≤ R.slots)
    (kk : ∀ (H1 : Heap) (locs1 : List Loc), PIC D cl G dsc ad σ1 H1 → va_S A H0 H1 locs1 → W p l e R s m args below meth c0 H1 locs1 cells slots Q (F0 m (pc + 3) ls (.int r :: rest))) : W p l e R s m args below meth c0 H locs cells slots Q (F0 m pc ls st0) := by
  have hsub := PA_sub hA hS
  refine va_calli (va_runS (As := As) (rest := rest) Sx (hM H.size) cw ⟨Ct_blind, fun U hU hW => ⟨rfl, by rw [hU], by rw [hU]; exact hP, KK.moved hW.alike hK⟩⟩ rfl hn hsize hstack (lv_room hW) hdg ⟨hf.1, hf.2⟩) hS (fun q _ h => hsub q h) hsub (fun r' u t H1 locs1 ht hvm hr hB hz hk hS1 => ?_)
  subst hr
  obtain ⟨hP1, -⟩ := hB
  rw [ht] at hP1
  exact kk H1 locs1 hP1 hS1
theorem p_callSL (Sx : CallFix p m c0 cc nL s args Ts own) (hK : KK D cl G s) (hP : PIC D cl G dsc ad σ H) (hS : va_S A H0 H locs) (hA : ∀ (q : Nat), PA dsc ad H0.size q → A q) {r : Int64} (hM : CtL l D cl G dsc ad y ws rm As σ r σ1) (cw : CallB R s args own index y bytes maxL ret ws rm 0 0 n ∧ (Cond.static y).before args s = true)
    (hn : As.length = n) (hsize : ls.size = nL) (hstack : st0 = As.reverse ++ rest) (hW : (rest.map fun v => v.category).sum ≤ 8) (hdg : decode cc pc = .ok (.invokestatic index, 3)) (hf : cells ≤ R.cells ∧ slots ≤ R.slots)
    (kk : ∀ (H1 : Heap) (locs1 : List Loc), PIC D cl G dsc ad σ1 H1 → va_S A H0 H1 locs1 → W p l e R s m args below meth c0 H1 locs1 cells slots Q (F0 m (pc + 3) ls (.long r :: rest))) : W p l e R s m args below meth c0 H locs cells slots Q (F0 m pc ls st0) := by
  have hsub := PA_sub hA hS
  refine va_calll (va_runS (As := As) (rest := rest) Sx (hM H.size) cw ⟨Ct_blind, fun U hU hW => ⟨rfl, by rw [hU], by rw [hU]; exact hP, KK.moved hW.alike hK⟩⟩ rfl hn hsize hstack (lv_room hW) hdg ⟨hf.1, hf.2⟩) hS (fun q _ h => hsub q h) hsub (fun r' u t H1 locs1 ht hvm hr hB hz hk hS1 => ?_)
  subst hr
  obtain ⟨hP1, -⟩ := hB
  rw [ht] at hP1
  exact kk H1 locs1 hP1 hS1
end CALLS
/-! ends -/
theorem p_iret (hexec : p.tables.exec = Jvm.exec) (hb : c0.code = cc) (hr : meth.sig.returnType = some .int) (hlocks : meth.locks = false) (hK : KK D cl G s) (hP : PIC D cl G dsc ad σ H) (hS : va_S A s.heap H locs) {v : Int32} (hdg : decode cc pc = .ok (.ireturn, 1)) : W p l e R s m args below meth c0 H locs cells slots (MQ below (va_Qi (fun x (_ : Unit) => x = v) (fun _ t => PIC D cl G dsc ad σ t.heap ∧ KK D cl G t) A) args s cells slots A) (F0 m pc ls [.int v]) :=
  W.iret hexec hb hr (fun t ht hW => ⟨⟨v, (), rfl, rfl, by rw [ht]; exact hP, KK.moved hW.alike hK⟩, hS.F ht⟩) hS.2.2 hdg hlocks
theorem p_lret (hexec : p.tables.exec = Jvm.exec) (hb : c0.code = cc) (hr : meth.sig.returnType = some .long) (hlocks : meth.locks = false) (hK : KK D cl G s) (hP : PIC D cl G dsc ad σ H) (hS : va_S A s.heap H locs) {v : Int64} (hdg : decode cc pc = .ok (.lreturn, 1)) : W p l e R s m args below meth c0 H locs cells slots (MQ below (va_Ql (fun x (_ : Unit) => x = v) (fun _ t => PIC D cl G dsc ad σ t.heap ∧ KK D cl G t) A) args s cells slots A) (F0 m pc ls [.long v]) :=
  W.lret hexec hb hr (fun t ht hW => ⟨⟨v, (), rfl, rfl, by rw [ht]; exact hP, KK.moved hW.alike hK⟩, hS.F ht⟩) hS.2.2 hdg hlocks
theorem p_vret (hexec : p.tables.exec = Jvm.exec) (hb : c0.code = cc) (hr : meth.sig.returnType = none) (hlocks : meth.locks = false) (hK : KK D cl G s) (hP : PIC D cl G dsc ad σ H) (hS : va_S A s.heap H locs) (hdg : decode cc pc = .ok (.return_, 1)) : W p l e R s m args below meth c0 H locs cells slots (MQ below (va_Qv (fun (_ : Unit) => True) (fun _ t => PIC D cl G dsc ad σ t.heap ∧ KK D cl G t) A) args s cells slots A) (F0 m pc ls []) :=
  W.vret hexec hb hr (fun t ht hW => ⟨⟨(), rfl, trivial, by rw [ht]; exact hP, KK.moved hW.alike hK⟩, hS.F ht⟩) hS.2.2 hdg hlocks
theorem p_zret (hexec : p.tables.exec = Jvm.exec) (hb : c0.code = cc) (hr : meth.sig.returnType = some .boolean) (hlocks : meth.locks = false) (hK : KK D cl G s) (hP : PIC D cl G dsc ad σ H) (hS : va_S A s.heap H locs) {v : Int32} (hn : narrow .boolean (.int v) = .int v) (hdg : decode cc pc = .ok (.ireturn, 1)) : W p l e R s m args below meth c0 H locs cells slots (MQ below (va_Qi (fun x (_ : Unit) => x = v) (fun _ t => PIC D cl G dsc ad σ t.heap ∧ KK D cl G t) A) args s cells slots A) (F0 m pc ls [.int v]) :=
  W.zret hexec hb hr hn (fun t ht hW => ⟨⟨v, (), rfl, rfl, by rw [ht]; exact hP, KK.moved hW.alike hK⟩, hS.F ht⟩) hS.2.2 hdg hlocks
end ROWS
