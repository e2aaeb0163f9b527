/-! The picture of a heap by cells: a store (ints, longs, other values), what each cell is, where it lies -/
abbrev Sto : Type := (Nat → Int32) × (Nat → Int64) × (Nat → Nat → Int32) × (Nat → Nat → Int64) × (Nat → Value)
def zI (σ : Sto) (c : Nat) (v : Int32) : Sto := (fun j => if j = c then v else σ.1 j, σ.2.1, σ.2.2.1, σ.2.2.2.1, σ.2.2.2.2)
def zL (σ : Sto) (c : Nat) (v : Int64) : Sto := (σ.1, fun j => if j = c then v else σ.2.1 j, σ.2.2.1, σ.2.2.2.1, σ.2.2.2.2)
def aI (σ : Sto) (c : Nat) (f : Nat → Int32) : Sto := (σ.1, σ.2.1, fun j => if j = c then f else σ.2.2.1 j, σ.2.2.2.1, σ.2.2.2.2)
def aL (σ : Sto) (c : Nat) (f : Nat → Int64) : Sto := (σ.1, σ.2.1, σ.2.2.1, fun j => if j = c then f else σ.2.2.2.1 j, σ.2.2.2.2)
theorem if_self_f {α : Type} (a : Nat → α) (c : Nat) : (fun j => if j = c then a c else a j) = a := by
  funext j
  by_cases h : j = c <;> simp [h]
theorem if_twice {α : Type} (a : Nat → α) (c : Nat) (f g : α) : (fun j => if j = c then g else if j = c then f else a j) = (fun j => if j = c then g else a j) := by
  funext j
  by_cases h : j = c <;> simp [h]
theorem if_comm2 {α : Type} (a : Nat → α) {c d : Nat} (h : c ≠ d) (f g : α) : (fun j => if j = d then g else if j = c then f else a j) = (fun j => if j = c then f else if j = d then g else a j) := by
  funext j
  by_cases h1 : j = c <;> by_cases h2 : j = d <;> simp_all
theorem zI_self (σ : Sto) (c : Nat) : zI σ c (σ.1 c) = σ := congrArg (fun x => ((x, σ.2.1, σ.2.2.1, σ.2.2.2.1, σ.2.2.2.2) : Sto)) (if_self_f σ.1 c)
theorem zL_self (σ : Sto) (c : Nat) : zL σ c (σ.2.1 c) = σ := congrArg (fun x => ((σ.1, x, σ.2.2.1, σ.2.2.2.1, σ.2.2.2.2) : Sto)) (if_self_f σ.2.1 c)
theorem aI_self (σ : Sto) (c : Nat) : aI σ c (σ.2.2.1 c) = σ := congrArg (fun x => ((σ.1, σ.2.1, x, σ.2.2.2.1, σ.2.2.2.2) : Sto)) (if_self_f σ.2.2.1 c)
theorem aL_self (σ : Sto) (c : Nat) : aL σ c (σ.2.2.2.1 c) = σ := congrArg (fun x => ((σ.1, σ.2.1, σ.2.2.1, x, σ.2.2.2.2) : Sto)) (if_self_f σ.2.2.2.1 c)
theorem zI_zI (σ : Sto) (c : Nat) (f g : Int32) : zI (zI σ c f) c g = zI σ c g := congrArg (fun x => ((x, σ.2.1, σ.2.2.1, σ.2.2.2.1, σ.2.2.2.2) : Sto)) (if_twice σ.1 c f g)
theorem zL_zL (σ : Sto) (c : Nat) (f g : Int64) : zL (zL σ c f) c g = zL σ c g := congrArg (fun x => ((σ.1, x, σ.2.2.1, σ.2.2.2.1, σ.2.2.2.2) : Sto)) (if_twice σ.2.1 c f g)
theorem aI_aI (σ : Sto) (c : Nat) (f g : Nat → Int32) : aI (aI σ c f) c g = aI σ c g := congrArg (fun x => ((σ.1, σ.2.1, x, σ.2.2.2.1, σ.2.2.2.2) : Sto)) (if_twice σ.2.2.1 c f g)
theorem aL_aL (σ : Sto) (c : Nat) (f g : Nat → Int64) : aL (aL σ c f) c g = aL σ c g := congrArg (fun x => ((σ.1, σ.2.1, σ.2.2.1, x, σ.2.2.2.2) : Sto)) (if_twice σ.2.2.2.1 c f g)
theorem zI_comm (σ : Sto) {c d : Nat} (h : c ≠ d) (f g : Int32) : zI (zI σ c f) d g = zI (zI σ d g) c f := congrArg (fun x => ((x, σ.2.1, σ.2.2.1, σ.2.2.2.1, σ.2.2.2.2) : Sto)) (if_comm2 σ.1 h f g)
theorem zL_comm (σ : Sto) {c d : Nat} (h : c ≠ d) (f g : Int64) : zL (zL σ c f) d g = zL (zL σ d g) c f := congrArg (fun x => ((σ.1, x, σ.2.2.1, σ.2.2.2.1, σ.2.2.2.2) : Sto)) (if_comm2 σ.2.1 h f g)
theorem aI_comm (σ : Sto) {c d : Nat} (h : c ≠ d) (f g : Nat → Int32) : aI (aI σ c f) d g = aI (aI σ d g) c f := congrArg (fun x => ((σ.1, σ.2.1, x, σ.2.2.2.1, σ.2.2.2.2) : Sto)) (if_comm2 σ.2.2.1 h f g)
theorem aL_comm (σ : Sto) {c d : Nat} (h : c ≠ d) (f g : Nat → Int64) : aL (aL σ c f) d g = aL (aL σ d g) c f := congrArg (fun x => ((σ.1, σ.2.1, σ.2.2.1, x, σ.2.2.2.2) : Sto)) (if_comm2 σ.2.2.2.1 h f g)
abbrev Dsc : Type := (Nat × List (Nat × Nat)) ⊕ (Nat × Nat × Nat)
def dwid : Dsc → Nat
  | .inl o => o.2.length
  | .inr _ => 1
def drf (ad : Nat → Nat) (b : Nat) (v : Int32) : Option Nat := if v < 0 then none else some (ad (b + 16 * v.toNatClampNeg))
def fval (ad : Nat → Nat) (σ : Sto) (j : Nat) (k : Nat × Nat) : Value := match k.1 with
  | 0 => .int (σ.1 j)
  | 1 => .long (σ.2.1 j)
  | 2 => .null
  | 3 => σ.2.2.2.2 j
  | 4 => .ref (ad k.2)
  | _ => va_rf (drf ad k.2 (σ.1 j))
def fvals (ad : Nat → Nat) (σ : Sto) : Nat → List (Nat × Nat) → List Value
  | _, [] => []
  | j, k :: ks => fval ad σ j k :: fvals ad σ (j + 1) ks
def cona (ad : Nat → Nat) (σ : Sto) (c : Nat) (a : Nat × Nat × Nat) : vp_A := match a.1 with
  | 0 => (a.2.1, .inl (σ.2.2.1 c))
  | 1 => (a.2.1, .inr (.inl (σ.2.2.2.1 c)))
  | 2 => (a.2.1, .inl (σ.2.2.1 c))
  | 3 => (a.2.1, .inl (σ.2.2.1 c))
  | 4 => (a.2.1, .inr (.inr (.inr (.inr (fun i => drf ad a.2.2 (σ.2.2.1 c i))))))
  | 6 => (a.2.1, .inr (.inr (.inr (.inr (fun i => drf ad a.2.2 (σ.2.2.1 c i))))))
  | _ => (a.2.1, .inr (.inr (.inr (.inr (fun i => some (ad (a.2.2 + 16 * i)))))))
def con (G : Nat → ClassId) (ad : Nat → Nat) (σ : Sto) (c : Nat) : Dsc → va_E
  | .inl o => .inr (o.1, fvals ad σ c o.2)
  | .inr a => .inl (G a.1, cona ad σ c a)
def PIC (D : va_G) (cl : List vw_C) (G : Nat → ClassId) (dsc : Nat → Option Dsc) (ad : Nat → Nat) (σ : Sto) (H : Heap) : Prop :=
  (∀ (c : Nat) (d : Dsc), dsc c = some d → va_at D cl (ad c, con G ad σ c d) H) ∧
  (∀ (c c' : Nat) (d d' : Dsc), dsc c = some d → dsc c' = some d' → ad c = ad c' → c = c') ∧
  (∀ (c : Nat) (d : Dsc), dsc c = some d → ∀ k, 0 < k → k < dwid d → dsc (c + k) = none)
def PA (dsc : Nat → Option Dsc) (ad : Nat → Nat) (sz : Nat) : Nat → Prop := fun q => (∃ (c : Nat) (d : Dsc), dsc c = some d ∧ q = ad c) ∨ sz ≤ q
theorem fvals_get {ad : Nat → Nat} {σ : Sto} : ∀ {ks : List (Nat × Nat)} {c k : Nat} {kd : Nat × Nat}, ks[k]? = some kd → (fvals ad σ c ks)[k]? = some (fval ad σ (c + k) kd)
  | [], _, _, _, h => by simp at h
  | a :: ks, c, 0, kd, h => by
    simp only [List.getElem?_cons_zero, Option.some.injEq] at h
    subst h
    rfl
  | a :: ks, c, k + 1, kd, h => by
    rw [List.getElem?_cons_succ] at h
    show (fvals ad σ (c + 1) ks)[k]? = _
    rw [fvals_get h, show c + 1 + k = c + (k + 1) by omega]
theorem fvals_len {ad : Nat → Nat} {σ : Sto} : ∀ (ks : List (Nat × Nat)) (c : Nat), (fvals ad σ c ks).length = ks.length
  | [], _ => rfl
  | _ :: ks, c => congrArg (· + 1) (fvals_len ks (c + 1))
/-- two stores that differ at the scalar j, or at the array j, alone -/
def offS (σ τ : Sto) (j : Nat) : Prop := (∀ i, i ≠ j → τ.1 i = σ.1 i) ∧ (∀ i, i ≠ j → τ.2.1 i = σ.2.1 i) ∧ (∀ i, i ≠ j → τ.2.2.1 i = σ.2.2.1 i) ∧ (∀ i, i ≠ j → τ.2.2.2.1 i = σ.2.2.2.1 i) ∧ (∀ i, i ≠ j → τ.2.2.2.2 i = σ.2.2.2.2 i)
theorem offS_zI (σ : Sto) (j : Nat) (v : Int32) : offS σ (zI σ j v) j := ⟨fun i h => if_neg h, fun _ _ => rfl, fun _ _ => rfl, fun _ _ => rfl, fun _ _ => rfl⟩
theorem offS_zL (σ : Sto) (j : Nat) (v : Int64) : offS σ (zL σ j v) j := ⟨fun _ _ => rfl, fun i h => if_neg h, fun _ _ => rfl, fun _ _ => rfl, fun _ _ => rfl⟩
theorem offS_aI (σ : Sto) (j : Nat) (v : Nat → Int32) : offS σ (aI σ j v) j := ⟨fun _ _ => rfl, fun _ _ => rfl, fun i h => if_neg h, fun _ _ => rfl, fun _ _ => rfl⟩
theorem offS_aL (σ : Sto) (j : Nat) (v : Nat → Int64) : offS σ (aL σ j v) j := ⟨fun _ _ => rfl, fun _ _ => rfl, fun _ _ => rfl, fun i h => if_neg h, fun _ _ => rfl⟩
theorem fval_off {ad : Nat → Nat} {σ τ : Sto} {i j : Nat} {k : Nat × Nat} (hτ : offS σ τ j) (h : i ≠ j) : fval ad τ i k = fval ad σ i k := by
  simp only [fval, hτ.1 i h, hτ.2.1 i h, hτ.2.2.2.2 i h]
theorem fvals_off {ad : Nat → Nat} {σ τ : Sto} {j : Nat} (hτ : offS σ τ j) : ∀ (ks : List (Nat × Nat)) (c : Nat), (∀ i, i < ks.length → c + i ≠ j) → fvals ad τ c ks = fvals ad σ c ks
  | [], _, _ => rfl
  | k :: ks, c, h => by
    have h0 : c ≠ j := h 0 (Nat.succ_pos _)
    show fval ad τ c k :: _ = fval ad σ c k :: _
    rw [fval_off hτ h0, fvals_off hτ ks (c + 1) (fun i hi => by have := h (i + 1) (Nat.succ_lt_succ hi); omega)]
theorem fvals_set {ad : Nat → Nat} {σ τ : Sto} : ∀ {ks : List (Nat × Nat)} {c k : Nat} {kd : Nat × Nat}, offS σ τ (c + k) → ks[k]? = some kd → fvals ad τ c ks = (fvals ad σ c ks).set k (fval ad τ (c + k) kd)
  | [], _, _, _, _, h => by simp at h
  | a :: ks, c, 0, kd, hτ, h => by
    simp only [List.getElem?_cons_zero, Option.some.injEq] at h
    subst h
    show fval ad τ c a :: fvals ad τ (c + 1) ks = fval ad τ (c + 0) a :: fvals ad σ (c + 1) ks
    rw [fvals_off hτ ks (c + 1) (fun i _ => by omega)]
    rfl
  | a :: ks, c, k + 1, kd, hτ, h => by
    rw [List.getElem?_cons_succ] at h
    show fval ad τ c a :: fvals ad τ (c + 1) ks = fval ad σ c a :: (fvals ad σ (c + 1) ks).set k _
    have e : c + (k + 1) = c + 1 + k := by omega
    rw [fval_off hτ (by omega), fvals_set (e ▸ hτ) h, e]
/-- a cell of a picture that isn't the one written reads what it read -/
theorem con_off {G : Nat → ClassId} {ad : Nat → Nat} {σ τ : Sto} {c j : Nat} {d : Dsc} (hτ : offS σ τ j) (h : ∀ i, i < dwid d → c + i ≠ j) : con G ad τ c d = con G ad σ c d := by
  cases d with
  | inl o => exact congrArg (fun x => (Sum.inr (o.1, x) : va_E)) (fvals_off hτ o.2 c h)
  | inr a =>
    have hc : c ≠ j := h 0 Nat.one_pos
    refine congrArg (fun x => (Sum.inl (G a.1, x) : va_E)) ?_
    simp only [cona, hτ.2.2.1 c hc, hτ.2.2.2.1 c hc]
theorem PIC.apart {D : va_G} {cl : List vw_C} {G : Nat → ClassId} {dsc : Nat → Option Dsc} {ad : Nat → Nat} {σ : Sto} {H : Heap} (h : PIC D cl G dsc ad σ H) {c c' : Nat} {d d' : Dsc} (hc : dsc c = some d) (hc' : dsc c' = some d') (hne : c' ≠ c) {k : Nat} (hk : k < dwid d) : ∀ i, i < dwid d' → c' + i ≠ c + k := by
  intro i hi e
  rcases Nat.lt_or_ge c c' with h1 | h1
  · have h2 := h.2.2 c d hc (c' - c) (by omega) (by omega)
    rw [show c + (c' - c) = c' by omega, hc'] at h2
    cases h2
  · have h2 := h.2.2 c' d' hc' (c - c') (by omega) (by omega)
    rw [show c' + (c - c') = c by omega, hc] at h2
    cases h2
/-- one cell is written -/
theorem PIC.put {D : va_G} {cl : List vw_C} {G : Nat → ClassId} {dsc : Nat → Option Dsc} {ad : Nat → Nat} {σ τ : Sto} {H H1 : Heap} (h : PIC D cl G dsc ad σ H) {c k : Nat} {d : Dsc} (hτ : offS σ τ (c + k)) (hc : dsc c = some d) (hk : k < dwid d) (he : va_at D cl (ad c, con G ad τ c d) H1) (oq : ∀ q : Nat, q ≠ ad c → H1[q]? = H[q]?) : PIC D cl G dsc ad τ H1 := by
  refine ⟨fun c' d' hc' => ?_, h.2.1, h.2.2⟩
  by_cases hcc : c' = c
  · subst hcc
    rw [hc] at hc'
    cases hc'
    exact he
  · rw [con_off hτ (h.apart hc hc' hcc hk)]
    exact (h.1 c' d' hc').kept (oq _ (fun z => hcc (h.2.1 c' c d' d hc' hc z)))
theorem PIC.to {D : va_G} {cl : List vw_C} {G : Nat → ClassId} {dsc : Nat → Option Dsc} {ad : Nat → Nat} {σ τ : Sto} {H : Heap} (h : PIC D cl G dsc ad σ H) (e : σ = τ) : PIC D cl G dsc ad τ H := e ▸ h
/-- other cells of the heap have changed -/
theorem PIC.kept {D : va_G} {cl : List vw_C} {G : Nat → ClassId} {dsc : Nat → Option Dsc} {ad : Nat → Nat} {σ : Sto} {H H1 : Heap} (h : PIC D cl G dsc ad σ H) (hq : ∀ (c : Nat) (d : Dsc), dsc c = some d → H1[ad c]? = H[ad c]?) : PIC D cl G dsc ad σ H1 :=
  ⟨fun c d hc => (h.1 c d hc).kept (hq c d hc), h.2⟩
theorem PIC.lt {D : va_G} {cl : List vw_C} {G : Nat → ClassId} {dsc : Nat → Option Dsc} {ad : Nat → Nat} {σ : Sto} {H : Heap} (h : PIC D cl G dsc ad σ H) {c : Nat} {d : Dsc} (hc : dsc c = some d) : ad c < H.size := (h.1 c d hc).lt
/-! pure words -/
def rdI (f : Nat → Int32) (n : Nat) (i : Int32) : Option Int32 := if i < 0 ∨ n ≤ i.toNatClampNeg then none else some (f i.toNatClampNeg)
def rdL (f : Nat → Int64) (n : Nat) (i : Int32) : Option Int64 := if i < 0 ∨ n ≤ i.toNatClampNeg then none else some (f i.toNatClampNeg)
def wrI (f : Nat → Int32) (n : Nat) (i x : Int32) : Option (Nat → Int32) := if i < 0 ∨ n ≤ i.toNatClampNeg then none else some (upd f i.toNatClampNeg x)
def wrL (f : Nat → Int64) (n : Nat) (i : Int32) (x : Int64) : Option (Nat → Int64) := if i < 0 ∨ n ≤ i.toNatClampNeg then none else some (vp_updL f i.toNatClampNeg x)
def dvI (x y : Int32) : Option Int32 := if y = 0 then none else some (x / y)
def rmI (x y : Int32) : Option Int32 := if y = 0 then none else some (x - x / y * y)
def dvL (x y : Int64) : Option Int64 := if y = 0 then none else some (x / y)
def rmL (x y : Int64) : Option Int64 := if y = 0 then none else some (x - x / y * y)
theorem rdI_some {f : Nat → Int32} {n : Nat} {i v : Int32} (h : rdI f n i = some v) : vp_in i n ∧ f i.toNatClampNeg = v := by
  unfold rdI at h
  split at h
  · cases h
  · next h1 => exact ⟨h1, Option.some.inj h⟩
theorem rdL_some {f : Nat → Int64} {n : Nat} {i : Int32} {v : Int64} (h : rdL f n i = some v) : vp_in i n ∧ f i.toNatClampNeg = v := by
  unfold rdL at h
  split at h
  · cases h
  · next h1 => exact ⟨h1, Option.some.inj h⟩
theorem wrI_some {f g : Nat → Int32} {n : Nat} {i x : Int32} (h : wrI f n i x = some g) : vp_in i n ∧ upd f i.toNatClampNeg x = g := by
  unfold wrI at h
  split at h
  · cases h
  · next h1 => exact ⟨h1, Option.some.inj h⟩
theorem wrL_some {f g : Nat → Int64} {n : Nat} {i : Int32} {x : Int64} (h : wrL f n i x = some g) : vp_in i n ∧ vp_updL f i.toNatClampNeg x = g := by
  unfold wrL at h
  split at h
  · cases h
  · next h1 => exact ⟨h1, Option.some.inj h⟩
theorem dvI_some {x y v : Int32} (h : dvI x y = some v) : ¬ y = 0 ∧ x / y = v := by
  unfold dvI at h
  split at h
  · cases h
  · next h1 => exact ⟨h1, Option.some.inj h⟩
theorem rmI_some {x y v : Int32} (h : rmI x y = some v) : ¬ y = 0 ∧ x - x / y * y = v := by
  unfold rmI at h
  split at h
  · cases h
  · next h1 => exact ⟨h1, Option.some.inj h⟩
theorem dvL_some {x y v : Int64} (h : dvL x y = some v) : ¬ y = 0 ∧ x / y = v := by
  unfold dvL at h
  split at h
  · cases h
  · next h1 => exact ⟨h1, Option.some.inj h⟩
theorem rmL_some {x y v : Int64} (h : rmL x y = some v) : ¬ y = 0 ∧ x - x / y * y = v := by
  unfold rmL at h
  split at h
  · cases h
  · next h1 => exact ⟨h1, Option.some.inj h⟩
theorem bdP {α β : Type} {x : Option α} {f : α → Option β} {r : β} (h : x.bind f = some r) : ∃ v, x = some v ∧ f v = some r := by
  cases x with
  | none => cases h
  | some v => exact ⟨v, rfl, h⟩
theorem ifT {α : Type} {c : Prop} [Decidable c] {a b r : α} (hc : c) (h : (if c then a else b) = r) : a = r := by rw [if_pos hc] at h; exact h
theorem ifF {α : Type} {c : Prop} [Decidable c] {a b r : α} (hc : ¬ c) (h : (if c then a else b) = r) : b = r := by rw [if_neg hc] at h; exact h
/-! loops -/
def iterN {σ β : Type} (f : σ → Option (σ ⊕ β)) : Nat → σ → Option β
  | 0, _ => none
  | n + 1, s => match f s with
    | none => none
    | some (.inl s') => iterN f n s'
    | some (.inr b) => some b
theorem iterN_mono {σ β : Type} {f : σ → Option (σ ⊕ β)} : ∀ {n m : Nat} {s : σ} {b : β}, n ≤ m → iterN f n s = some b → iterN f m s = some b
  | 0, _, _, _, _, h => by cases h
  | n + 1, 0, _, _, hm, _ => by omega
  | n + 1, m + 1, s, b, hm, h => by
    unfold iterN at h ⊢
    split at h
    · cases h
    · next s' e => exact iterN_mono (by omega) h
    · next b' e => exact h
theorem iterN_det {σ β : Type} {f : σ → Option (σ ⊕ β)} {n m : Nat} {s : σ} {b b' : β} (h : iterN f n s = some b) (h' : iterN f m s = some b') : b = b' := by
  have h1 := iterN_mono (Nat.le_max_left n m) h
  have h2 := iterN_mono (Nat.le_max_right n m) h'
  rw [h1] at h2
  exact Option.some.inj h2
noncomputable def loop {σ β : Type} (f : σ → Option (σ ⊕ β)) (s : σ) : Option β :=
  @dite _ (∃ (b : β) (n : Nat), iterN f n s = some b) (Classical.propDecidable _) (fun h => some (Classical.choose h)) (fun _ => none)
theorem loop_iff {σ β : Type} {f : σ → Option (σ ⊕ β)} {s : σ} {b : β} : loop f s = some b ↔ ∃ n, iterN f n s = some b := by
  unfold loop
  constructor
  · intro h
    split at h
    · next h1 =>
      cases h
      exact Classical.choose_spec h1
    · cases h
  · intro h
    rw [dif_pos ⟨b, h⟩]
    have h1 := Classical.choose_spec (⟨b, h⟩ : ∃ (b : β) (n : Nat), iterN f n s = some b)
    obtain ⟨n, hn⟩ := h
    obtain ⟨m, hm⟩ := h1
    rw [iterN_det hm hn]
theorem loop_inr {σ β : Type} {f : σ → Option (σ ⊕ β)} {s : σ} {b : β} (h : f s = some (.inr b)) : loop f s = some b :=
  loop_iff.mpr ⟨1, by unfold iterN; rw [h]⟩
theorem loop_inl {σ β : Type} {f : σ → Option (σ ⊕ β)} {s s' : σ} (h : f s = some (.inl s')) : loop f s = loop f s' := by
  have h1 : ∀ b, loop f s = some b ↔ loop f s' = some b := by
    intro b
    rw [loop_iff, loop_iff]
    constructor
    · rintro ⟨n, hn⟩
      cases n with
      | zero => cases hn
      | succ n => unfold iterN at hn; rw [h] at hn; exact ⟨n, hn⟩
    · rintro ⟨n, hn⟩
      exact ⟨n + 1, by unfold iterN; rw [h]; exact hn⟩
  cases h2 : loop f s' with
  | some b => exact (h1 b).mpr h2
  | none =>
    cases h3 : loop f s with
    | none => rfl
    | some b => rw [(h1 b).mp h3] at h2; cases h2
theorem loop_P {σ β : Type} {f : σ → Option (σ ⊕ β)} {P : σ → β → Prop}
    (step : ∀ (s : σ) (b : β) (o : σ ⊕ β), f s = some o → (∀ s', o = .inl s' → P s' b) → (∀ b', o = .inr b' → b' = b) → P s b) : ∀ (s : σ) (b : β), loop f s = some b → P s b := by
  have key : ∀ (n : Nat) (s : σ) (b : β), iterN f n s = some b → P s b := by
    intro n
    induction n with
    | zero => intro s b h; cases h
    | succ n ih =>
      intro s b h
      unfold iterN at h
      split at h
      · cases h
      · next s' e => exact step s b _ e (fun s2 h2 => by cases h2; exact ih _ _ h) (fun b' h2 => by cases h2)
      · next b' e => exact step s b _ e (fun s2 h2 => by cases h2) (fun b2 h2 => by cases h2; exact Option.some.inj h)
  intro s b h
  obtain ⟨n, hn⟩ := loop_iff.mp h
  exact key n s b hn
/-- how a loop is shown to come to an end: an invariant, a measure -/
theorem loop_M {σ β : Type} {f : σ → Option (σ ⊕ β)} (I : σ → Prop) (Qo : β → Prop) (μ : σ → Nat)
    (step : ∀ s, I s → (∃ s', f s = some (.inl s') ∧ I s' ∧ μ s' < μ s) ∨ (∃ b, f s = some (.inr b) ∧ Qo b)) : ∀ s, I s → ∃ b, loop f s = some b ∧ Qo b := by
  have key : ∀ (n : Nat) (s : σ), μ s < n → I s → ∃ b, loop f s = some b ∧ Qo b := by
    intro n
    induction n with
    | zero => intro s h; omega
    | succ n ih =>
      intro s h hI
      rcases step s hI with ⟨s', h1, h2, h3⟩ | ⟨b, h1, h2⟩
      · obtain ⟨b, hb, hq⟩ := ih s' (by omega) h2
        exact ⟨b, by rw [loop_inl h1]; exact hb, hq⟩
      · exact ⟨b, loop_inr h1, h2⟩
  intro s hI
  exact key (μ s + 1) s (Nat.lt_succ_self _) hI
