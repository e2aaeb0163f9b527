/-! the system's picture: its cells, its pools -/
def tabX : List (Nat × Dsc) := [(1000, .inl (0, [(4, 1100), (0, 0), (0, 0), (0, 0), (4, 1040), (4, 2000), (4, 1050), (4, 1055), (4, 1108), (4, 1060), (4, 1070), (4, 1080), (4, 1090), (4, 1480), (4, 1512), (4, 1448), (4, 1260), (4, 1117), (0, 0), (0, 0), (0, 0), (0, 0), (0, 0), (4, 1123), (1, 0), (4, 1125), (4, 1126), (0, 0), (0, 0), (0, 0), (4, 1130), (4, 1131), (4, 1132)])), (1040, .inl (1, [(0, 0), (0, 0), (0, 0), (0, 0), (0, 0), (3, 0), (4, 1000)])), (1050, .inl (3, [(4, 1140), (4, 1141), (1, 0)])), (1055, .inl (3, [(4, 1142), (4, 1143), (1, 0)])), (1060, .inl (4, [(4, 1150), (1, 0), (6, 1050), (4, 1000), (4, 1000)])), (1070, .inl (4, [(4, 1151), (1, 0), (6, 1055), (4, 1000), (4, 1000)])), (1080, .inl (5, [(4, 1152), (1, 0), (6, 1050), (4, 1000), (4, 1000), (4, 1000)])), (1090, .inl (6, [(4, 1153), (1, 0), (6, 1050), (4, 1000), (0, 0), (0, 0), (4, 1000)])), (1100, .inr (3, 600, 0)), (1108, .inr (0, 64, 0)), (1117, .inr (7, 7, 1400)), (1123, .inr (0, 6, 0)), (1125, .inr (0, 11, 0)), (1126, .inr (1, 357210, 0)), (1130, .inr (0, 101, 0)), (1131, .inr (0, 101, 0)), (1132, .inr (0, 101, 0)), (1140, .inr (1, 64, 0)), (1141, .inr (1, 729, 0)), (1142, .inr (1, 64, 0)), (1143, .inr (1, 729, 0)), (1150, .inr (1, 7290, 0)), (1151, .inr (1, 7290, 0)), (1152, .inr (1, 7290, 0)), (1153, .inr (1, 7290, 0)), (1160, .inr (0, 10, 0)), (1161, .inr (0, 10, 0)), (1162, .inr (0, 10, 0)), (1163, .inr (0, 10, 0)), (1164, .inr (0, 6, 0)), (1165, .inr (0, 6, 0)), (1170, .inr (0, 7, 0)), (1171, .inr (8, 10, 1600)), (1260, .inl (12, [(0, 0), (4, 1265), (0, 0)])), (1265, .inr (6, 30, 10000)), (1400, .inl (10, [(4, 1000), (4, 1060), (4, 1000)])), (1416, .inl (10, [(4, 1000), (4, 1080), (4, 1000)])), (1432, .inl (10, [(4, 1000), (4, 1090), (4, 1000)])), (1448, .inl (9, [(4, 1162), (4, 1000), (4, 1000), (4, 1000)])), (1464, .inl (7, [(4, 1163), (4, 1000), (4, 1000), (4, 1000)])), (1480, .inl (8, [(4, 1160), (4, 1000), (4, 1000), (4, 1000), (4, 1164), (0, 0), (4, 1000)])), (1496, .inl (11, [(4, 1000), (4, 1000)])), (1512, .inl (8, [(4, 1161), (4, 1000), (4, 1000), (4, 1000), (4, 1165), (0, 0), (4, 1000)])), (2000, .inl (2, [(4, 2020), (4, 2025), (4, 2030), (4, 2040), (4, 2041), (4, 2042), (4, 2043), (4, 2044), (0, 0), (0, 0), (0, 0), (0, 0), (0, 0), (0, 0)])), (2020, .inl (12, [(0, 0), (4, 2035), (0, 0)])), (2025, .inl (12, [(0, 0), (4, 2036), (0, 0)])), (2030, .inl (12, [(0, 0), (4, 2037), (0, 0)])), (2035, .inr (6, 24, 6000)), (2036, .inr (6, 6, 6000)), (2037, .inr (6, 6, 8000)), (2040, .inr (0, 10, 0)), (2041, .inr (0, 2, 0)), (2042, .inr (0, 2, 0)), (2043, .inr (0, 10, 0)), (2044, .inr (5, 10, 4000)), (4000, .inr (4, 10, 6000)), (4016, .inr (4, 10, 6000)), (4032, .inr (4, 10, 6000)), (4048, .inr (4, 10, 6000)), (4064, .inr (4, 10, 6000)), (4080, .inr (4, 10, 6000)), (4096, .inr (4, 10, 6000)), (4112, .inr (4, 10, 6000)), (4128, .inr (4, 10, 6000)), (4144, .inr (4, 10, 6000)), (1600, .inl (18, [(4, 2800), (0, 0)])), (1616, .inl (18, [(4, 2816), (0, 0)])), (1632, .inl (18, [(4, 2832), (0, 0)])), (1648, .inl (18, [(4, 2848), (0, 0)])), (1664, .inl (18, [(4, 2864), (0, 0)])), (1680, .inl (18, [(4, 2880), (0, 0)])), (1696, .inl (18, [(4, 2896), (0, 0)])), (1712, .inl (18, [(4, 2912), (0, 0)])), (1728, .inl (18, [(4, 2928), (0, 0)])), (1744, .inl (18, [(4, 2944), (0, 0)])), (2800, .inr (3, 5, 0)), (2816, .inr (3, 5, 0)), (2832, .inr (3, 4, 0)), (2848, .inr (3, 4, 0)), (2864, .inr (3, 3, 0)), (2880, .inr (3, 4, 0)), (2896, .inr (3, 2, 0)), (2912, .inr (3, 5, 0)), (2928, .inr (3, 2, 0)), (2944, .inr (3, 4, 0))]
def dX0 (c : Nat) : Option Dsc := tabX.lookup c
theorem dX_1000 : dX0 1000 = some (.inl (0, [(4, 1100), (0, 0), (0, 0), (0, 0), (4, 1040), (4, 2000), (4, 1050), (4, 1055), (4, 1108), (4, 1060), (4, 1070), (4, 1080), (4, 1090), (4, 1480), (4, 1512), (4, 1448), (4, 1260), (4, 1117), (0, 0), (0, 0), (0, 0), (0, 0), (0, 0), (4, 1123), (1, 0), (4, 1125), (4, 1126), (0, 0), (0, 0), (0, 0), (4, 1130), (4, 1131), (4, 1132)])) := rfl
theorem dX_1040 : dX0 1040 = some (.inl (1, [(0, 0), (0, 0), (0, 0), (0, 0), (0, 0), (3, 0), (4, 1000)])) := rfl
theorem dX_1050 : dX0 1050 = some (.inl (3, [(4, 1140), (4, 1141), (1, 0)])) := rfl
theorem dX_1055 : dX0 1055 = some (.inl (3, [(4, 1142), (4, 1143), (1, 0)])) := rfl
theorem dX_1060 : dX0 1060 = some (.inl (4, [(4, 1150), (1, 0), (6, 1050), (4, 1000), (4, 1000)])) := rfl
theorem dX_1070 : dX0 1070 = some (.inl (4, [(4, 1151), (1, 0), (6, 1055), (4, 1000), (4, 1000)])) := rfl
theorem dX_1080 : dX0 1080 = some (.inl (5, [(4, 1152), (1, 0), (6, 1050), (4, 1000), (4, 1000), (4, 1000)])) := rfl
theorem dX_1090 : dX0 1090 = some (.inl (6, [(4, 1153), (1, 0), (6, 1050), (4, 1000), (0, 0), (0, 0), (4, 1000)])) := rfl
theorem dX_1100 : dX0 1100 = some (.inr (3, 600, 0)) := rfl
theorem dX_1108 : dX0 1108 = some (.inr (0, 64, 0)) := rfl
theorem dX_1117 : dX0 1117 = some (.inr (7, 7, 1400)) := rfl
theorem dX_1123 : dX0 1123 = some (.inr (0, 6, 0)) := rfl
theorem dX_1125 : dX0 1125 = some (.inr (0, 11, 0)) := rfl
theorem dX_1126 : dX0 1126 = some (.inr (1, 357210, 0)) := rfl
theorem dX_1130 : dX0 1130 = some (.inr (0, 101, 0)) := rfl
theorem dX_1131 : dX0 1131 = some (.inr (0, 101, 0)) := rfl
theorem dX_1132 : dX0 1132 = some (.inr (0, 101, 0)) := rfl
theorem dX_1140 : dX0 1140 = some (.inr (1, 64, 0)) := rfl
theorem dX_1141 : dX0 1141 = some (.inr (1, 729, 0)) := rfl
theorem dX_1142 : dX0 1142 = some (.inr (1, 64, 0)) := rfl
theorem dX_1143 : dX0 1143 = some (.inr (1, 729, 0)) := rfl
theorem dX_1150 : dX0 1150 = some (.inr (1, 7290, 0)) := rfl
theorem dX_1151 : dX0 1151 = some (.inr (1, 7290, 0)) := rfl
theorem dX_1152 : dX0 1152 = some (.inr (1, 7290, 0)) := rfl
theorem dX_1153 : dX0 1153 = some (.inr (1, 7290, 0)) := rfl
theorem dX_1160 : dX0 1160 = some (.inr (0, 10, 0)) := rfl
theorem dX_1161 : dX0 1161 = some (.inr (0, 10, 0)) := rfl
theorem dX_1162 : dX0 1162 = some (.inr (0, 10, 0)) := rfl
theorem dX_1163 : dX0 1163 = some (.inr (0, 10, 0)) := rfl
theorem dX_1164 : dX0 1164 = some (.inr (0, 6, 0)) := rfl
theorem dX_1165 : dX0 1165 = some (.inr (0, 6, 0)) := rfl
theorem dX_1170 : dX0 1170 = some (.inr (0, 7, 0)) := rfl
theorem dX_1171 : dX0 1171 = some (.inr (8, 10, 1600)) := rfl
theorem dX_1260 : dX0 1260 = some (.inl (12, [(0, 0), (4, 1265), (0, 0)])) := rfl
theorem dX_1265 : dX0 1265 = some (.inr (6, 30, 10000)) := rfl
theorem dX_1400 : dX0 1400 = some (.inl (10, [(4, 1000), (4, 1060), (4, 1000)])) := rfl
theorem dX_1416 : dX0 1416 = some (.inl (10, [(4, 1000), (4, 1080), (4, 1000)])) := rfl
theorem dX_1432 : dX0 1432 = some (.inl (10, [(4, 1000), (4, 1090), (4, 1000)])) := rfl
theorem dX_1448 : dX0 1448 = some (.inl (9, [(4, 1162), (4, 1000), (4, 1000), (4, 1000)])) := rfl
theorem dX_1464 : dX0 1464 = some (.inl (7, [(4, 1163), (4, 1000), (4, 1000), (4, 1000)])) := rfl
theorem dX_1480 : dX0 1480 = some (.inl (8, [(4, 1160), (4, 1000), (4, 1000), (4, 1000), (4, 1164), (0, 0), (4, 1000)])) := rfl
theorem dX_1496 : dX0 1496 = some (.inl (11, [(4, 1000), (4, 1000)])) := rfl
theorem dX_1512 : dX0 1512 = some (.inl (8, [(4, 1161), (4, 1000), (4, 1000), (4, 1000), (4, 1165), (0, 0), (4, 1000)])) := rfl
theorem dX_2000 : dX0 2000 = some (.inl (2, [(4, 2020), (4, 2025), (4, 2030), (4, 2040), (4, 2041), (4, 2042), (4, 2043), (4, 2044), (0, 0), (0, 0), (0, 0), (0, 0), (0, 0), (0, 0)])) := rfl
theorem dX_2020 : dX0 2020 = some (.inl (12, [(0, 0), (4, 2035), (0, 0)])) := rfl
theorem dX_2025 : dX0 2025 = some (.inl (12, [(0, 0), (4, 2036), (0, 0)])) := rfl
theorem dX_2030 : dX0 2030 = some (.inl (12, [(0, 0), (4, 2037), (0, 0)])) := rfl
theorem dX_2035 : dX0 2035 = some (.inr (6, 24, 6000)) := rfl
theorem dX_2036 : dX0 2036 = some (.inr (6, 6, 6000)) := rfl
theorem dX_2037 : dX0 2037 = some (.inr (6, 6, 8000)) := rfl
theorem dX_2040 : dX0 2040 = some (.inr (0, 10, 0)) := rfl
theorem dX_2041 : dX0 2041 = some (.inr (0, 2, 0)) := rfl
theorem dX_2042 : dX0 2042 = some (.inr (0, 2, 0)) := rfl
theorem dX_2043 : dX0 2043 = some (.inr (0, 10, 0)) := rfl
theorem dX_2044 : dX0 2044 = some (.inr (5, 10, 4000)) := rfl
theorem dX_4000 : dX0 4000 = some (.inr (4, 10, 6000)) := rfl
theorem dX_4016 : dX0 4016 = some (.inr (4, 10, 6000)) := rfl
theorem dX_4032 : dX0 4032 = some (.inr (4, 10, 6000)) := rfl
theorem dX_4048 : dX0 4048 = some (.inr (4, 10, 6000)) := rfl
theorem dX_4064 : dX0 4064 = some (.inr (4, 10, 6000)) := rfl
theorem dX_4080 : dX0 4080 = some (.inr (4, 10, 6000)) := rfl
theorem dX_4096 : dX0 4096 = some (.inr (4, 10, 6000)) := rfl
theorem dX_4112 : dX0 4112 = some (.inr (4, 10, 6000)) := rfl
theorem dX_4128 : dX0 4128 = some (.inr (4, 10, 6000)) := rfl
theorem dX_4144 : dX0 4144 = some (.inr (4, 10, 6000)) := rfl
theorem dX_1600 : dX0 1600 = some (.inl (18, [(4, 2800), (0, 0)])) := rfl
theorem dX_1616 : dX0 1616 = some (.inl (18, [(4, 2816), (0, 0)])) := rfl
theorem dX_1632 : dX0 1632 = some (.inl (18, [(4, 2832), (0, 0)])) := rfl
theorem dX_1648 : dX0 1648 = some (.inl (18, [(4, 2848), (0, 0)])) := rfl
theorem dX_1664 : dX0 1664 = some (.inl (18, [(4, 2864), (0, 0)])) := rfl
theorem dX_1680 : dX0 1680 = some (.inl (18, [(4, 2880), (0, 0)])) := rfl
theorem dX_1696 : dX0 1696 = some (.inl (18, [(4, 2896), (0, 0)])) := rfl
theorem dX_1712 : dX0 1712 = some (.inl (18, [(4, 2912), (0, 0)])) := rfl
theorem dX_1728 : dX0 1728 = some (.inl (18, [(4, 2928), (0, 0)])) := rfl
theorem dX_1744 : dX0 1744 = some (.inl (18, [(4, 2944), (0, 0)])) := rfl
theorem dX_2800 : dX0 2800 = some (.inr (3, 5, 0)) := rfl
theorem dX_2816 : dX0 2816 = some (.inr (3, 5, 0)) := rfl
theorem dX_2832 : dX0 2832 = some (.inr (3, 4, 0)) := rfl
theorem dX_2848 : dX0 2848 = some (.inr (3, 4, 0)) := rfl
theorem dX_2864 : dX0 2864 = some (.inr (3, 3, 0)) := rfl
theorem dX_2880 : dX0 2880 = some (.inr (3, 4, 0)) := rfl
theorem dX_2896 : dX0 2896 = some (.inr (3, 2, 0)) := rfl
theorem dX_2912 : dX0 2912 = some (.inr (3, 5, 0)) := rfl
theorem dX_2928 : dX0 2928 = some (.inr (3, 2, 0)) := rfl
theorem dX_2944 : dX0 2944 = some (.inr (3, 4, 0)) := rfl
def XD (dsc : Nat → Option Dsc) (nr nw nu : Nat) : Prop := (∀ c d, dX0 c = some d → dsc c = some d) ∧ (∀ k, k < nr → dsc (6000 + 16 * k) = some (.inl (15, [(0, 0), (0, 0), (0, 0), (0, 0), (0, 0), (0, 0), (0, 0)]))) ∧ (∀ k, k < nw → dsc (8000 + 16 * k) = some (.inl (16, [(0, 0), (0, 0), (0, 0)]))) ∧ (∀ k, k < nu → dsc (10000 + 16 * k) = some (.inl (17, [(0, 0), (0, 0), (0, 0), (0, 0)]))) ∧ (∀ k, k < 10 → dsc (4000 + 16 * k) = some (.inr (4, 10, 6000)))
theorem t_set1 {cell : Cell} {N : Nat} {iS : Nat → Nat} {V : Nat → Value} (h : ∀ k, k < N → cell.slots[iS k]? = some (V k)) {k : Nat} (hk : k < N) (hap : ∀ b, b < N → b ≠ k → iS b ≠ iS k) (v : Value) :
    ∀ j, j < N → (cell.setSlot (iS k) v).slots[iS j]? = some (updV V k v j) := by
  intro j hj
  by_cases hjk : j = k
  · subst hjk
    rw [Cell.slots_setSlot_self _ (k2_hasslot (h j hj))]
    simp [updV]
  · rw [slot_ne _ _ (fun e => hap j hj hjk e.symm), h j hj]
    simp [updV, hjk]
def rd2 (f : Nat → Nat → Int32) (i j : Int32) : Option Int32 := if (i < 0 ∨ 10 ≤ i.toNatClampNeg) ∨ (j < 0 ∨ 10 ≤ j.toNatClampNeg) then none else some (f i.toNatClampNeg j.toNatClampNeg)
theorem rd2_some {f : Nat → Nat → Int32} {i j v : Int32} (h : rd2 f i j = some v) : vp_in i 10 ∧ vp_in j 10 ∧ f i.toNatClampNeg j.toNatClampNeg = v := by
  unfold rd2 at h
  split at h
  · cases h
  · next h1 => exact ⟨fun q => h1 (Or.inl q), fun q => h1 (Or.inr q), Option.some.inj h⟩
theorem aI_selfE {τ : Sto} {c : Nat} {f : Nat → Int32} (h : τ.2.2.1 c = f) : aI τ c f = τ := by
  subst h
  exact aI_self τ c
theorem rf_cat (o : Option Nat) : (va_rf o).category = 1 := by cases o <;> rfl
section XPREL
variable {p : Program} {l : Launch} {e : Env} {R : Room} {s : State} {m : MethodId} {args : Array Value} {below : List Frame} {meth : Method} {c0 : Code} {H : Heap} {locs : List Loc} {cells slots : Nat} {Q : State → Prop}
variable {cc : ByteArray} {nL : Nat} {ret : Option FieldType} {pc : Nat} {ls : Array Slot} {rest : List Value} {D : va_G} {A : Nat → Prop} {G : Nat → ClassId} {dsc : Nat → Option Dsc} {ad : Nat → Nat} {σ : Sto} {nr nw nu : Nat}
theorem p_ad {a c2 : Nat} (h : a = c2) (k : W p l e R s m args below meth c0 H locs cells slots Q (F0 m pc ls (.ref (ad c2) :: rest))) : W p l e R s m args below meth c0 H locs cells slots Q (F0 m pc ls (.ref (ad a) :: rest)) := h ▸ k
theorem p_rfc {b c2 : Nat} {v : Int32} (h : ¬ v < 0) (e : b + 16 * v.toNatClampNeg = c2) : va_rf (drf ad b v) = .ref (ad c2) := by
  rw [drf_pos h, e]
theorem p_aaldG (hexec : p.tables.exec = Jvm.exec) (hb : c0.code = cc) (hK : KK D clsA G s) (hD : XD dsc nr nw nu) (hP : PIC D clsA G dsc ad σ H) {g : Nat → Nat → Int32} {i j v : Int32} (hv : rd2 g i j = some v) (hg : (fun k => σ.2.2.1 (4000 + 16 * k)) = g) (hdg : decode cc pc = .ok (.aaload, 1))
    (kk : W p l e R s m args below meth c0 H locs cells slots Q (F0 m (pc + 1) ls (va_rf (drf ad 6000 v) :: rest))) : W p l e R s m args below meth c0 H locs cells slots Q (F0 m pc ls (.int j :: va_rf (drf ad 4000 i) :: rest)) := by
  subst hg
  obtain ⟨h1, h2, h3⟩ := rd2_some hv
  have h0 : ¬ i < 0 := fun q => h1 (Or.inl q)
  have hlt : i.toNatClampNeg < 10 := Nat.not_le.mp fun q => h1 (Or.inr q)
  rw [drf_pos h0]
  exact p_aald4 (f := σ.2.2.1 (4000 + 16 * i.toNatClampNeg)) hexec hb hK hP (hD.2.2.2.2 _ hlt) rfl (by unfold rdI; rw [if_neg h2, h3]) hdg kk
theorem p_castP {b n index : Nat} {ci : Nat} {ks : List (Nat × Nat)} {q : vw_C} {own : String} {v w : Int32} (hexec : p.tables.exec = Jvm.exec) (hb : c0.code = cc) (hK : KK D clsA G s) (hP : PIC D clsA G dsc ad σ H) (hown : s.vm.findClass own = some m.cls) (hlink : (Cond.classLink own index q.1).before args s = true) (hv : ixI n v = some w) (hd : ∀ k, k < n → dsc (b + 16 * k) = some (.inl (ci, ks))) (hc : clsA[ci]? = some q) (hdg : decode cc pc = .ok (.checkcast index, 3))
    (kk : W p l e R s m args below meth c0 H locs cells slots Q (F0 m (pc + 3) ls (va_rf (drf ad b w) :: rest))) : W p l e R s m args below meth c0 H locs cells slots Q (F0 m pc ls (va_rf (drf ad b v) :: rest)) := by
  obtain ⟨h1, h2⟩ := ixI_some hv
  subst h2
  have h0 : ¬ v < 0 := fun q => h1 (Or.inl q)
  have hlt : v.toNatClampNeg < n := Nat.not_le.mp fun q => h1 (Or.inr q)
  rw [drf_pos h0] at kk ⊢
  exact va_castS hexec hb hown hlink (hK.1 ci q hc).2 (PIC.recv hK hP (hd _ hlt) hc) hdg kk
theorem p_ctG {y : MethodName} {maxL : Nat} {rm : Room} {As : List Value} {σ1 : Sto} {val : Option Value} (hy : plainName y.cls = true) (hl0 : (lg_sl As).length ≤ maxL)
    (body : ∀ (p : Program) (e : Env) (s : State) (m : MethodId) (below : List Frame) (meth : Method) (c0 : Code) (ls : Array Slot) (A : Nat → Prop), EN p s m As.toArray meth c0 y.cls cc maxL ret → PIC D clsA G dsc ad σ s.heap → KX D G ad A s s.heap → (∀ q, PA dsc ad s.heap.size q → A q) → va_S A s.heap s.heap [] → lv_has ls maxL (lv_args 0 As) →
      W p l e rm s m As.toArray below meth c0 s.heap [] 0 0 (MQ below (va_G1 val (fun t => PIC D clsA G dsc ad σ1 t.heap) A) As.toArray s 0 0 A) (F0 m 0 ls [])) :
    CtG l D G dsc ad y (ws_ y cc maxL ret) rm As σ val σ1 := by
  intro sz
  refine p_met hy hl0 ?_
  intro p e s m below meth c0 ls E _ hB hl
  obtain ⟨hsz, hP, hX⟩ := hB
  subst hsz
  exact body p e s m below meth c0 ls _ E hP hX (fun q h => h) va_S.rf hl
theorem p_putG (hexec : p.tables.exec = Jvm.exec) (hb : c0.code = cc) {own ref C : String} {T : u_T} {N ci index c : Nat} {Ts : List Cond} (hts : ∀ w ∈ Ts, w.before args s = true) (hin : ∀ w ∈ u_ws C T N, w ∈ Ts) (ty0 : Nat → FieldType) (hty : ∀ k, k < N → parseFieldDescriptor (T k).2.2.1 = some (ty0 k)) (hown : s.vm.findClass own = some m.cls) (hK : KK D clsA G s) (hP : PIC D clsA G dsc ad σ H) (hS0 : va_S A s.heap H locs) (hA : A (ad c)) {ks : List (Nat × Nat)} (hd : dsc c = some (.inl (ci, ks))) (hc : clsA[ci]? = some (C, T, N)) (k : Nat) (hk : k < N) (hapn : ∀ b, b < N → b ≠ k → (T b).2.1 ≠ (T k).2.1) (hlink : (Cond.fieldLink own index ref (T k).2.1 (T k).2.2.1).before args s = true) (hsame : ∀ x, s.fieldFound? (T k).1 (T k).2.1 (T k).2.2.1 = some x → s.fieldFound? ref (T k).2.1 (T k).2.2.1 = some x) (hfin : (T k).2.2.2 = false) {ty : FieldType} {v : Value} (hty1 : parseFieldDescriptor (T k).2.2.1 = some ty) (hn : narrow ty v = v) (hfit : fits ty v = true) {kd : Nat × Nat} (hkd : ks[k]? = some kd) {σ' : Sto} (hoff : offS σ σ' (c + k)) (hval : fval ad σ' (c + k) kd = v)
    (hdg : decode cc pc = .ok (.putfield index, 3)) (kk : ∀ (H1 : Heap) (locs1 : List Loc), PIC D clsA G dsc ad σ' H1 → va_S A s.heap H1 locs1 → W p l e R s m args below meth c0 H1 locs1 cells slots Q (F0 m (pc + 3) ls rest)) : W p l e R s m args below meth c0 H locs cells slots Q (F0 m pc ls (v :: .ref (ad c) :: rest)) := by
  have hat := hP.1 c _ hd
  obtain ⟨r, h1, cell, q1, q2, q3, q4⟩ := hat
  have hr : r = (C, T, N) := Option.some.inj (h1.symm.trans hc)
  subst hr
  obtain ⟨hS, hfc, kC, hkC, hkind⟩ := hK.1 ci _ hc
  have hap : ∀ b, b < N → b ≠ k → (D.2 ci) b ≠ (D.2 ci) k := by
    intro b hb2 hne
    obtain ⟨_, _, _, fa, hia, ea⟩ := hS b hb2
    obtain ⟨_, _, _, fb, hib, eb⟩ := hS k hk
    rw [← ea, ← eb]
    refine u_apart (u_lays hts hin hb2) (u_lays hts hin hk) hia hib ?_
    rw [(State.fieldFound?_type hia (hty b hb2)).1, (State.fieldFound?_type hib (hty k hk)).1]
    exact hapn b hb2 hne
  obtain ⟨cf, kf, fi, f, hi, hsl⟩ := hS k hk
  have hlay := hts _ (hin _ (u_in_lay hk))
  unfold u_lay at hlay
  rw [if_neg (by rw [hfin]; decide)] at hlay
  have hst := (u_facts hfc hkC (u_lays hts hin hk) hi).1
  have h6 := u_store hfc hkC hkind hlay hi hty1 hn hfit
  have hlen : k < (fvals ad σ c ks).length := by rw [fvals_len]; exact (List.getElem?_eq_some_iff.mp hkd).1
  refine W.putK hexec hb (f := f) ⟨hown, hlink, ⟨_, _, _, hsame _ hi⟩, hst⟩ (by rw [q2]; exact h6) q1 q3 (by rw [hsl]; exact k2_hasslot (q4 k hk)) rfl rfl hdg fun H' e1 e2 e3 => ?_
  rw [hsl] at e1 ⊢
  refine kk H' _ (hP.put hoff hd (by show k < ks.length; exact (List.getElem?_eq_some_iff.mp hkd).1) ?_ e3) (hS0.put e2 e3 hA)
  have hcon : con G ad σ' c (.inl (ci, ks)) = .inr (ci, (fvals ad σ c ks).set k v) := by
    show (Sum.inr (ci, fvals ad σ' c ks) : va_E) = _
    rw [fvals_set hoff hkd, hval]
  rw [hcon]
  exact ⟨_, hc, t_OB.to (V := updV (vp_V (fvals ad σ c ks)) k v) ⟨_, e1, q2, q3, t_set1 q4 hk hap v⟩ (fun j _ => vp_updV_set hlen v j)⟩
theorem p_putGN (hexec : p.tables.exec = Jvm.exec) (hb : c0.code = cc) {own ref C host : String} {T : u_T} {N ci index c : Nat} {Ts : List Cond} (hts : ∀ w ∈ Ts, w.before args s = true) (hin : ∀ w ∈ u_ws C T N, w ∈ Ts) (ty0 : Nat → FieldType) (hty : ∀ k, k < N → parseFieldDescriptor (T k).2.2.1 = some (ty0 k)) (hown : s.vm.findClass own = some m.cls) (hK : KK D clsA G s) (hP : PIC D clsA G dsc ad σ H) (hS0 : va_S A s.heap H locs) (hA : A (ad c)) {ks : List (Nat × Nat)} (hd : dsc c = some (.inl (ci, ks))) (hc : clsA[ci]? = some (C, T, N)) (k : Nat) (hk : k < N) (hapn : ∀ b, b < N → b ≠ k → (T b).2.1 ≠ (T k).2.1) (hlink : va_Nw (.fieldLinkNest own index ref (T k).2.1 (T k).2.2.1 host) s) (hsame : ∀ x, s.fieldFound? (T k).1 (T k).2.1 (T k).2.2.1 = some x → s.fieldFound? ref (T k).2.1 (T k).2.2.1 = some x) (hfin : (T k).2.2.2 = false) {ty : FieldType} {v : Value} (hty1 : parseFieldDescriptor (T k).2.2.1 = some ty) (hn : narrow ty v = v) (hfit : fits ty v = true) {kd : Nat × Nat} (hkd : ks[k]? = some kd) {σ' : Sto} (hoff : offS σ σ' (c + k)) (hval : fval ad σ' (c + k) kd = v)
    (hdg : decode cc pc = .ok (.putfield index, 3)) (kk : ∀ (H1 : Heap) (locs1 : List Loc), PIC D clsA G dsc ad σ' H1 → va_S A s.heap H1 locs1 → W p l e R s m args below meth c0 H1 locs1 cells slots Q (F0 m (pc + 3) ls rest)) : W p l e R s m args below meth c0 H locs cells slots Q (F0 m pc ls (v :: .ref (ad c) :: rest)) := by
  have hat := hP.1 c _ hd
  obtain ⟨r, h1, cell, q1, q2, q3, q4⟩ := hat
  have hr : r = (C, T, N) := Option.some.inj (h1.symm.trans hc)
  subst hr
  obtain ⟨hS, hfc, kC, hkC, hkind⟩ := hK.1 ci _ hc
  have hap : ∀ b, b < N → b ≠ k → (D.2 ci) b ≠ (D.2 ci) k := by
    intro b hb2 hne
    obtain ⟨_, _, _, fa, hia, ea⟩ := hS b hb2
    obtain ⟨_, _, _, fb, hib, eb⟩ := hS k hk
    rw [← ea, ← eb]
    refine u_apart (u_lays hts hin hb2) (u_lays hts hin hk) hia hib ?_
    rw [(State.fieldFound?_type hia (hty b hb2)).1, (State.fieldFound?_type hib (hty k hk)).1]
    exact hapn b hb2 hne
  obtain ⟨cf, kf, fi, f, hi, hsl⟩ := hS k hk
  have hlay := hts _ (hin _ (u_in_lay hk))
  unfold u_lay at hlay
  rw [if_neg (by rw [hfin]; decide)] at hlay
  have hst := (u_facts hfc hkC (u_lays hts hin hk) hi).1
  have h6 := u_store hfc hkC hkind hlay hi hty1 hn hfit
  have hlen : k < (fvals ad σ c ks).length := by rw [fvals_len]; exact (List.getElem?_eq_some_iff.mp hkd).1
  refine va_WputK hexec hb (f := f) hown (va_Nw.use rfl hlink) (hsame _ hi) hst (by rw [q2]; exact h6) q1 q3 (by rw [hsl]; exact k2_hasslot (q4 k hk)) rfl rfl hdg fun H' e1 e2 e3 => ?_
  rw [hsl] at e1 ⊢
  refine kk H' _ (hP.put hoff hd (by show k < ks.length; exact (List.getElem?_eq_some_iff.mp hkd).1) ?_ e3) (hS0.put e2 e3 hA)
  have hcon : con G ad σ' c (.inl (ci, ks)) = .inr (ci, (fvals ad σ c ks).set k v) := by
    show (Sum.inr (ci, fvals ad σ' c ks) : va_E) = _
    rw [fvals_set hoff hkd, hval]
  rw [hcon]
  exact ⟨_, hc, t_OB.to (V := updV (vp_V (fvals ad σ c ks)) k v) ⟨_, e1, q2, q3, t_set1 q4 hk hap v⟩ (fun j _ => vp_updV_set hlen v j)⟩
theorem p_puti2 (hexec : p.tables.exec = Jvm.exec) (hb : c0.code = cc) {own ref C : String} {T : u_T} {N ci index c : Nat} {Ts : List Cond} (hts : ∀ w ∈ Ts, w.before args s = true) (hin : ∀ w ∈ u_ws C T N, w ∈ Ts) (ty0 : Nat → FieldType) (hty : ∀ k, k < N → parseFieldDescriptor (T k).2.2.1 = some (ty0 k)) (hown : s.vm.findClass own = some m.cls) (hK : KK D clsA G s) (hP : PIC D clsA G dsc ad σ H) (hS0 : va_S A s.heap H locs) (hA : A (ad c)) {ks : List (Nat × Nat)} (hd : dsc c = some (.inl (ci, ks))) (hc : clsA[ci]? = some (C, T, N)) (k : Nat) (hk : k < N) (hapn : ∀ b, b < N → b ≠ k → (T b).2.1 ≠ (T k).2.1) (hlink : (Cond.fieldLink own index ref (T k).2.1 (T k).2.2.1).before args s = true) (hsame : ∀ x, s.fieldFound? (T k).1 (T k).2.1 (T k).2.2.1 = some x → s.fieldFound? ref (T k).2.1 (T k).2.2.1 = some x) (hfin : (T k).2.2.2 = false) {x : Int32} {z : Nat} {ty : FieldType} (hty1 : parseFieldDescriptor (T k).2.2.1 = some ty) (hn : narrow ty (.int x) = .int x) (hfit : fits ty (.int x) = true) (hkd : ks[k]? = some (0, z)) {σ' : Sto} (hσ : zI σ (c + k) x = σ')
    (hdg : decode cc pc = .ok (.putfield index, 3)) (kk : ∀ (H1 : Heap) (locs1 : List Loc), PIC D clsA G dsc ad σ' H1 → va_S A s.heap H1 locs1 → W p l e R s m args below meth c0 H1 locs1 cells slots Q (F0 m (pc + 3) ls rest)) : W p l e R s m args below meth c0 H locs cells slots Q (F0 m pc ls (.int x :: .ref (ad c) :: rest)) := by
  subst hσ
  exact p_putG (v := .int x) hexec hb hts hin ty0 hty hown hK hP hS0 hA hd hc k hk hapn hlink hsame hfin hty1 hn hfit hkd (offS_zI σ (c + k) x) (by simp [fval, zI]) hdg kk
theorem p_putl2 (hexec : p.tables.exec = Jvm.exec) (hb : c0.code = cc) {own ref C : String} {T : u_T} {N ci index c : Nat} {Ts : List Cond} (hts : ∀ w ∈ Ts, w.before args s = true) (hin : ∀ w ∈ u_ws C T N, w ∈ Ts) (ty0 : Nat → FieldType) (hty : ∀ k, k < N → parseFieldDescriptor (T k).2.2.1 = some (ty0 k)) (hown : s.vm.findClass own = some m.cls) (hK : KK D clsA G s) (hP : PIC D clsA G dsc ad σ H) (hS0 : va_S A s.heap H locs) (hA : A (ad c)) {ks : List (Nat × Nat)} (hd : dsc c = some (.inl (ci, ks))) (hc : clsA[ci]? = some (C, T, N)) (k : Nat) (hk : k < N) (hapn : ∀ b, b < N → b ≠ k → (T b).2.1 ≠ (T k).2.1) (hlink : (Cond.fieldLink own index ref (T k).2.1 (T k).2.2.1).before args s = true) (hsame : ∀ x, s.fieldFound? (T k).1 (T k).2.1 (T k).2.2.1 = some x → s.fieldFound? ref (T k).2.1 (T k).2.2.1 = some x) (hfin : (T k).2.2.2 = false) {x : Int64} {z : Nat} (hty1 : parseFieldDescriptor (T k).2.2.1 = some .long) (hkd : ks[k]? = some (1, z)) {σ' : Sto} (hσ : zL σ (c + k) x = σ')
    (hdg : decode cc pc = .ok (.putfield index, 3)) (kk : ∀ (H1 : Heap) (locs1 : List Loc), PIC D clsA G dsc ad σ' H1 → va_S A s.heap H1 locs1 → W p l e R s m args below meth c0 H1 locs1 cells slots Q (F0 m (pc + 3) ls rest)) : W p l e R s m args below meth c0 H locs cells slots Q (F0 m pc ls (.long x :: .ref (ad c) :: rest)) := by
  subst hσ
  exact p_putG (v := .long x) hexec hb hts hin ty0 hty hown hK hP hS0 hA hd hc k hk hapn hlink hsame hfin hty1 rfl rfl hkd (offS_zL σ (c + k) x) (by simp [fval, zL]) hdg kk
theorem p_putr2 (hexec : p.tables.exec = Jvm.exec) (hb : c0.code = cc) {own ref C : String} {T : u_T} {N ci index c : Nat} {Ts : List Cond} (hts : ∀ w ∈ Ts, w.before args s = true) (hin : ∀ w ∈ u_ws C T N, w ∈ Ts) (ty0 : Nat → FieldType) (hty : ∀ k, k < N → parseFieldDescriptor (T k).2.2.1 = some (ty0 k)) (hown : s.vm.findClass own = some m.cls) (hK : KK D clsA G s) (hP : PIC D clsA G dsc ad σ H) (hS0 : va_S A s.heap H locs) (hA : A (ad c)) {ks : List (Nat × Nat)} (hd : dsc c = some (.inl (ci, ks))) (hc : clsA[ci]? = some (C, T, N)) (k : Nat) (hk : k < N) (hapn : ∀ b, b < N → b ≠ k → (T b).2.1 ≠ (T k).2.1) (hlink : (Cond.fieldLink own index ref (T k).2.1 (T k).2.2.1).before args s = true) (hsame : ∀ x, s.fieldFound? (T k).1 (T k).2.1 (T k).2.2.1 = some x → s.fieldFound? ref (T k).2.1 (T k).2.2.1 = some x) (hfin : (T k).2.2.2 = false) {z : Nat} {ty : FieldType} (hty1 : parseFieldDescriptor (T k).2.2.1 = some ty) (hn : narrow ty (.ref (ad z)) = .ref (ad z)) (hfit : fits ty (.ref (ad z)) = true) (hkd : ks[k]? = some (6, z)) {σ' : Sto} (hσ : zI σ (c + k) 0 = σ')
    (hdg : decode cc pc = .ok (.putfield index, 3)) (kk : ∀ (H1 : Heap) (locs1 : List Loc), PIC D clsA G dsc ad σ' H1 → va_S A s.heap H1 locs1 → W p l e R s m args below meth c0 H1 locs1 cells slots Q (F0 m (pc + 3) ls rest)) : W p l e R s m args below meth c0 H locs cells slots Q (F0 m pc ls (.ref (ad z) :: .ref (ad c) :: rest)) := by
  subst hσ
  exact p_putG (v := .ref (ad z)) hexec hb hts hin ty0 hty hown hK hP hS0 hA hd hc k hk hapn hlink hsame hfin hty1 hn hfit hkd (offS_zI σ (c + k) 0) (by simp [fval, zI, drf, va_rf]) hdg kk
theorem p_puti2N (hexec : p.tables.exec = Jvm.exec) (hb : c0.code = cc) {own ref C host : String} {T : u_T} {N ci index c : Nat} {Ts : List Cond} (hts : ∀ w ∈ Ts, w.before args s = true) (hin : ∀ w ∈ u_ws C T N, w ∈ Ts) (ty0 : Nat → FieldType) (hty : ∀ k, k < N → parseFieldDescriptor (T k).2.2.1 = some (ty0 k)) (hown : s.vm.findClass own = some m.cls) (hK : KK D clsA G s) (hP : PIC D clsA G dsc ad σ H) (hS0 : va_S A s.heap H locs) (hA : A (ad c)) {ks : List (Nat × Nat)} (hd : dsc c = some (.inl (ci, ks))) (hc : clsA[ci]? = some (C, T, N)) (k : Nat) (hk : k < N) (hapn : ∀ b, b < N → b ≠ k → (T b).2.1 ≠ (T k).2.1) (hlink : va_Nw (.fieldLinkNest own index ref (T k).2.1 (T k).2.2.1 host) s) (hsame : ∀ x, s.fieldFound? (T k).1 (T k).2.1 (T k).2.2.1 = some x → s.fieldFound? ref (T k).2.1 (T k).2.2.1 = some x) (hfin : (T k).2.2.2 = false) {x : Int32} {z : Nat} {ty : FieldType} (hty1 : parseFieldDescriptor (T k).2.2.1 = some ty) (hn : narrow ty (.int x) = .int x) (hfit : fits ty (.int x) = true) (hkd : ks[k]? = some (0, z)) {σ' : Sto} (hσ : zI σ (c + k) x = σ')
    (hdg : decode cc pc = .ok (.putfield index, 3)) (kk : ∀ (H1 : Heap) (locs1 : List Loc), PIC D clsA G dsc ad σ' H1 → va_S A s.heap H1 locs1 → W p l e R s m args below meth c0 H1 locs1 cells slots Q (F0 m (pc + 3) ls rest)) : W p l e R s m args below meth c0 H locs cells slots Q (F0 m pc ls (.int x :: .ref (ad c) :: rest)) := by
  subst hσ
  exact p_putGN (v := .int x) hexec hb hts hin ty0 hty hown hK hP hS0 hA hd hc k hk hapn hlink hsame hfin hty1 hn hfit hkd (offS_zI σ (c + k) x) (by simp [fval, zI]) hdg kk
theorem p_putl2N (hexec : p.tables.exec = Jvm.exec) (hb : c0.code = cc) {own ref C host : String} {T : u_T} {N ci index c : Nat} {Ts : List Cond} (hts : ∀ w ∈ Ts, w.before args s = true) (hin : ∀ w ∈ u_ws C T N, w ∈ Ts) (ty0 : Nat → FieldType) (hty : ∀ k, k < N → parseFieldDescriptor (T k).2.2.1 = some (ty0 k)) (hown : s.vm.findClass own = some m.cls) (hK : KK D clsA G s) (hP : PIC D clsA G dsc ad σ H) (hS0 : va_S A s.heap H locs) (hA : A (ad c)) {ks : List (Nat × Nat)} (hd : dsc c = some (.inl (ci, ks))) (hc : clsA[ci]? = some (C, T, N)) (k : Nat) (hk : k < N) (hapn : ∀ b, b < N → b ≠ k → (T b).2.1 ≠ (T k).2.1) (hlink : va_Nw (.fieldLinkNest own index ref (T k).2.1 (T k).2.2.1 host) s) (hsame : ∀ x, s.fieldFound? (T k).1 (T k).2.1 (T k).2.2.1 = some x → s.fieldFound? ref (T k).2.1 (T k).2.2.1 = some x) (hfin : (T k).2.2.2 = false) {x : Int64} {z : Nat} (hty1 : parseFieldDescriptor (T k).2.2.1 = some .long) (hkd : ks[k]? = some (1, z)) {σ' : Sto} (hσ : zL σ (c + k) x = σ')
    (hdg : decode cc pc = .ok (.putfield index, 3)) (kk : ∀ (H1 : Heap) (locs1 : List Loc), PIC D clsA G dsc ad σ' H1 → va_S A s.heap H1 locs1 → W p l e R s m args below meth c0 H1 locs1 cells slots Q (F0 m (pc + 3) ls rest)) : W p l e R s m args below meth c0 H locs cells slots Q (F0 m pc ls (.long x :: .ref (ad c) :: rest)) := by
  subst hσ
  exact p_putGN (v := .long x) hexec hb hts hin ty0 hty hown hK hP hS0 hA hd hc k hk hapn hlink hsame hfin hty1 rfl rfl hkd (offS_zL σ (c + k) x) (by simp [fval, zL]) hdg kk
theorem p_putr2N (hexec : p.tables.exec = Jvm.exec) (hb : c0.code = cc) {own ref C host : String} {T : u_T} {N ci index c : Nat} {Ts : List Cond} (hts : ∀ w ∈ Ts, w.before args s = true) (hin : ∀ w ∈ u_ws C T N, w ∈ Ts) (ty0 : Nat → FieldType) (hty : ∀ k, k < N → parseFieldDescriptor (T k).2.2.1 = some (ty0 k)) (hown : s.vm.findClass own = some m.cls) (hK : KK D clsA G s) (hP : PIC D clsA G dsc ad σ H) (hS0 : va_S A s.heap H locs) (hA : A (ad c)) {ks : List (Nat × Nat)} (hd : dsc c = some (.inl (ci, ks))) (hc : clsA[ci]? = some (C, T, N)) (k : Nat) (hk : k < N) (hapn : ∀ b, b < N → b ≠ k → (T b).2.1 ≠ (T k).2.1) (hlink : va_Nw (.fieldLinkNest own index ref (T k).2.1 (T k).2.2.1 host) s) (hsame : ∀ x, s.fieldFound? (T k).1 (T k).2.1 (T k).2.2.1 = some x → s.fieldFound? ref (T k).2.1 (T k).2.2.1 = some x) (hfin : (T k).2.2.2 = false) {z : Nat} {ty : FieldType} (hty1 : parseFieldDescriptor (T k).2.2.1 = some ty) (hn : narrow ty (.ref (ad z)) = .ref (ad z)) (hfit : fits ty (.ref (ad z)) = true) (hkd : ks[k]? = some (6, z)) {σ' : Sto} (hσ : zI σ (c + k) 0 = σ')
    (hdg : decode cc pc = .ok (.putfield index, 3)) (kk : ∀ (H1 : Heap) (locs1 : List Loc), PIC D clsA G dsc ad σ' H1 → va_S A s.heap H1 locs1 → W p l e R s m args below meth c0 H1 locs1 cells slots Q (F0 m (pc + 3) ls rest)) : W p l e R s m args below meth c0 H locs cells slots Q (F0 m pc ls (.ref (ad z) :: .ref (ad c) :: rest)) := by
  subst hσ
  exact p_putGN (v := .ref (ad z)) hexec hb hts hin ty0 hty hown hK hP hS0 hA hd hc k hk hapn hlink hsame hfin hty1 hn hfit hkd (offS_zI σ (c + k) 0) (by simp [fval, zI, drf, va_rf]) hdg kk
end XPREL

theorem bp_49 : (Int8.ofInt 49).toInt32 = 49 := by decide
theorem bp_63 : (Int8.ofInt 63).toInt32 = 63 := by decide
theorem sp_256 : (Int16.ofInt 256).toInt32 = 256 := by decide
theorem sp_12345 : (Int16.ofInt 12345).toInt32 = 12345 := by decide
