/-! numbers, reads and loops in plain words -/
theorem loop_for {σ β : Type} {f : σ → Option (σ ⊕ β)} (n : Nat) (S : Nat → σ) (b : β) (hs : ∀ i, i < n → f (S i) = some (.inl (S (i + 1)))) (he : f (S n) = some (.inr b)) : loop f (S 0) = some b := by
  have key : ∀ j, j ≤ n → loop f (S (n - j)) = some b := by
    intro j
    induction j with
    | zero => intro _; exact loop_inr he
    | succ j ih =>
      intro hj
      have h1 := hs (n - (j + 1)) (by omega)
      rw [loop_inl h1, show n - (j + 1) + 1 = n - j by omega]
      exact ih (by omega)
  have := key n (Nat.le_refl n)
  rwa [Nat.sub_self] at this
theorem rd_ok {f : Nat → Int32} {n i : Nat} (h : i < n) (hn : n < 2 ^ 31) : rdI f n (nI i) = some (f i) := by
  unfold rdI
  have h1 := nI_in h hn
  rw [if_neg h1, nI_clamp (by omega)]
theorem rl_ok {f : Nat → Int64} {n i : Nat} (h : i < n) (hn : n < 2 ^ 31) : rdL f n (nI i) = some (f i) := by
  unfold rdL
  have h1 := nI_in h hn
  rw [if_neg h1, nI_clamp (by omega)]
theorem wr_ok {f : Nat → Int32} {n i : Nat} {x : Int32} (h : i < n) (hn : n < 2 ^ 31) : wrI f n (nI i) x = some (upd f i x) := by
  unfold wrI
  have h1 := nI_in h hn
  rw [if_neg h1, nI_clamp (by omega)]
theorem wl_ok {f : Nat → Int64} {n i : Nat} {x : Int64} (h : i < n) (hn : n < 2 ^ 31) : wrL f n (nI i) x = some (vp_updL f i x) := by
  unfold wrL
  have h1 := nI_in h hn
  rw [if_neg h1, nI_clamp (by omega)]
theorem dv_ok {a b : Nat} (ha : a < 2 ^ 31) (h0 : 0 < b) (hb : b < 2 ^ 31) : dvI (nI a) (nI b) = some (nI (a / b)) := by
  unfold dvI
  rw [if_neg (nI_ne0 h0 hb), pk_div ha h0 hb]
theorem rm_ok {a b : Nat} (ha : a < 2 ^ 31) (h0 : 0 < b) (hb : b < 2 ^ 31) : rmI (nI a) (nI b) = some (nI (a % b)) := by
  unfold rmI
  rw [if_neg (nI_ne0 h0 hb), pk_rem ha h0 hb]
theorem shl1 {k : Nat} (h : k < 31) : (1 : Int32) <<< (nI k &&& 31) = nI (2 ^ k) := by
  have : ∀ k : Fin 31, (1 : Int32) <<< (nI k.val &&& 31) = nI (2 ^ k.val) := by decide +kernel
  exact this ⟨k, h⟩
theorem and31 {k : Nat} (h : k < 32) : ((nI k &&& 31).toBitVec.smod 32).toNat = k := by
  have : ∀ k : Fin 32, ((nI k.val &&& 31).toBitVec.smod 32).toNat = k.val := by decide +kernel
  exact this ⟨k, h⟩
theorem shr_ok {w k : Nat} (hw : w < 2 ^ 31) (hk : k < 32) : nI w >>> (nI k &&& 31) = nI (w / 2 ^ k) := pk_shrN hw _ k (and31 hk)
theorem bit_ok {w k : Nat} (hw : w < 2 ^ 31) (hk : k < 32) : (nI w >>> (nI k &&& 31)) &&& 1 = nI (w / 2 ^ k % 2) := by
  rw [shr_ok hw hk, pk_andN (k := 1) (Nat.lt_of_le_of_lt (Nat.div_le_self _ _) (by omega)) (by decide)]
/-- the digit of a knowing -/
def dig (k d : Nat) : Nat := k / 3 ^ d % 3
theorem dig_lt (k d : Nat) : dig k d < 3 := Nat.mod_lt _ (by decide)
theorem three_lt {d : Nat} (h : d < 7) : 3 ^ d < 2 ^ 31 := Nat.lt_of_le_of_lt (Nat.pow_le_pow_right (by decide) (show d ≤ 6 by omega)) (by decide)
theorem mo_digit_ok {th : Nat → Int32} (h3 : ∀ d, d < 7 → th d = nI (3 ^ d)) {k d : Nat} (hk : k < 2 ^ 31) (hd : d < 7) : mo_digit th (nI k) (nI d) = some (nI (dig k d)) := by
  unfold mo_digit
  rw [rd_ok hd (by decide), Option.bind_some, h3 d hd, dv_ok hk (Nat.pow_pos (by decide)) (three_lt hd), Option.bind_some]
  rw [show (3 : Int32) = nI 3 from rfl, rm_ok (Nat.lt_of_le_of_lt (Nat.div_le_self _ _) hk) (by decide) (by decide)]
  rfl
/-- how many digits are open -/
def opn (nD k : Nat) : Nat → Nat
  | 0 => 0
  | i + 1 => opn nD k i + (if dig k i = 0 then 1 else 0)
theorem opn_le (nD k : Nat) : ∀ i, opn nD k i ≤ i
  | 0 => Nat.le_refl 0
  | i + 1 => by
    have := opn_le nD k i
    unfold opn
    split <;> omega
theorem mo_doubts_ok {mn : Nat → Int32} {nD : Nat} (h : mn 3 = nI nD) : mo_doubts mn = some (nI nD) := by
  unfold mo_doubts
  rw [show (3 : Int32) = nI 3 from rfl, rd_ok (by decide) (by decide), h]
  rfl
theorem mo_openIn_ok {mn th : Nat → Int32} {nD k : Nat} (hm : mn 3 = nI nD) (hD : nD < 7) (h3 : ∀ d, d < 7 → th d = nI (3 ^ d)) (hk : k < 2 ^ 31) : mo_openIn mn th (nI k) = some (nI (opn nD k nD)) := by
  unfold mo_openIn
  have h := loop_for (f := mo_openIn_L4 mn th (nI k)) nD (fun i => (nI (opn nD k i), nI i)) (nI (opn nD k nD)) ?_ ?_
  · simp only [opn] at h
    erw [h]
    rfl
  · intro i hi
    unfold mo_openIn_L4
    simp only [mo_doubts_ok hm, Option.bind_some]
    rw [if_neg (nI_ge hi (by omega)), mo_digit_ok h3 hk (by omega)]
    simp only [Option.bind_some]
    sorry
  · unfold mo_openIn_L4
    simp only [mo_doubts_ok hm, Option.bind_some]
    rw [if_pos (nI_le (Nat.le_refl nD) (by omega))]
