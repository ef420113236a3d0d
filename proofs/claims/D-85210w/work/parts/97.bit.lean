/-! ===== PHASE 2: bits of longs ===== -/
section Bits
/-- bit i of a long -/
def tb (x : Int) (i : Nat) : Bool := (Int64.ofInt x).toBitVec.getLsbD i
theorem tb_or (x y : Int) (i : Nat) : tb (lOr x y) i = (tb x i || tb y i) := by
  unfold tb lOr
  rw [Int64.ofInt_toInt, Int64.toBitVec_or, BitVec.getLsbD_or]
theorem tb_and (x y : Int) (i : Nat) : tb (lAnd x y) i = (tb x i && tb y i) := by
  unfold tb lAnd
  rw [Int64.ofInt_toInt, Int64.toBitVec_and, BitVec.getLsbD_and]
theorem tb_xor (x y : Int) (i : Nat) : tb (lXor x y) i = (tb x i ^^ tb y i) := by
  unfold tb lXor
  rw [Int64.ofInt_toInt, Int64.toBitVec_xor, BitVec.getLsbD_xor]
theorem tb_m1 : ∀ i, i < 64 → tb (-1) i = true := by decide
theorem tb_0 (i : Nat) : tb 0 i = false := by
  unfold tb
  show (0#64).getLsbD i = false
  simp
theorem tb_not (x : Int) {i : Nat} (h : i < 64) : tb (lXor x (-1)) i = !tb x i := by rw [tb_xor, tb_m1 i h]; simp
theorem tb_ext {x y : Int} (hx : g64 x) (hy : g64 y) (h : ∀ i, i < 64 → tb x i = tb y i) : x = y := by
  have e : Int64.ofInt x = Int64.ofInt y := by
    apply Int64.toBitVec_inj.mp
    exact BitVec.eq_of_getLsbD_eq h
  have a := w64_id hx
  have b := w64_id hy
  unfold w64 at a b
  rw [← a, ← b, e]
theorem tb_zero {x : Int} (hx : g64 x) : x = 0 ↔ ∀ i, i < 64 → tb x i = false := by
  constructor
  · intro e i _; rw [e]; exact tb_0 i
  · intro h; exact tb_ext hx (by decide) (fun i hi => by rw [h i hi, tb_0])
set_option maxRecDepth 100000 in
theorem amt : ∀ n : Nat, n < 320 → (((Int32.ofInt (n : Int)).toInt64 &&& 63).toBitVec.smod 64) = BitVec.ofNat 64 (n % 64) := by decide +kernel
theorem ofNat64 {n : Nat} (h : n < 64) : (BitVec.ofNat 64 n).toNat = n := by simp; omega
theorem tb_shl (x : Int) {n i : Nat} (h : n < 320) (hi : i < 64) : tb (lShl x n) i = (decide (n % 64 ≤ i) && tb x (i - n % 64)) := by
  unfold tb lShl
  rw [Int64.ofInt_toInt, Int64.toBitVec_shiftLeft, amt n h, BitVec.shiftLeft_eq', ofNat64 (by omega), BitVec.getLsbD_shiftLeft, decide_eq_true hi, Bool.true_and]
  congr 1
  by_cases c : i < n % 64
  · rw [decide_eq_true c, decide_eq_false (by omega)]; rfl
  · rw [decide_eq_false c, decide_eq_true (by omega)]; rfl
theorem tb_shr (x : Int) {n i : Nat} (h : n < 320) (hi : i + n % 64 < 64) : tb (lShr x n) i = tb x (n % 64 + i) := by
  unfold tb lShr
  rw [Int64.ofInt_toInt, Int64.toBitVec_shiftRight, amt n h, BitVec.sshiftRight_eq', ofNat64 (by omega), BitVec.getLsbD_sshiftRight, decide_eq_false (show ¬ 64 ≤ i by omega), if_pos (show n % 64 + i < 64 by omega)]
  rfl
theorem tb_1 : ∀ i, i < 64 → tb 1 i = decide (i = 0) := by decide
theorem tb_one {n i : Nat} (h : n < 320) (hi : i < 64) : tb (lShl 1 n) i = decide (i = n % 64) := by
  rw [tb_shl 1 h hi]
  by_cases c : n % 64 ≤ i
  · rw [decide_eq_true c, Bool.true_and, tb_1 _ (by omega)]
    by_cases e : i = n % 64
    · rw [decide_eq_true e, decide_eq_true (by omega)]
    · rw [decide_eq_false e, decide_eq_false (by omega)]
  · rw [decide_eq_false c, Bool.false_and, decide_eq_false (by omega)]
theorem tb_ones {n i : Nat} (h : n < 320) (hi : i < 64) : tb (lShl (-1) n) i = decide (n % 64 ≤ i) := by
  rw [tb_shl _ h hi]
  by_cases c : n % 64 ≤ i
  · rw [decide_eq_true c, tb_m1 _ (by omega)]; rfl
  · rw [decide_eq_false c, Bool.false_and]
/-- one bit looked at -/
theorem bit_at (x : Int) {n : Nat} (h : n < 320) : lAnd (lShr x n) 1 = if tb x (n % 64) then 1 else 0 := by
  refine tb_ext (lAnd_rng _ _) (by split <;> decide) (fun i hi => ?_)
  rw [tb_and, tb_1 i hi]
  by_cases e : i = 0
  · subst e
    rw [tb_shr x h (by omega), Nat.add_zero]
    cases tb x (n % 64) <;> simp [tb_0, tb_1]
  · rw [decide_eq_false e, Bool.and_false]
    cases tb x (n % 64) <;> simp [tb_0, tb_1 i hi, e]
/-! graphs of 320 -/
/-- ways with stations below m alone -/
def RC (L : Nat → Nat → Prop) : Nat → Nat → Nat → Prop
  | 0, i, j => L i j
  | m + 1, i, j => RC L m i j ∨ (RC L m i m ∧ RC L m m j)
theorem RC.trans {L : Nat → Nat → Prop} : ∀ (m : Nat) {i k j : Nat}, k < m → RC L m i k → RC L m k j → RC L m i j := by
  intro m
  induction m with
  | zero => intro i k j h; omega
  | succ m ih =>
    intro i k j hk a b
    have sm : ∀ {p}, RC L (m + 1) p m → RC L m p m := fun h => h.elim id (fun h => h.1)
    have ms : ∀ {p}, RC L (m + 1) m p → RC L m m p := fun h => h.elim id (fun h => h.2)
    by_cases e : k = m
    · subst e
      exact Or.inr ⟨sm a, ms b⟩
    · have hk' : k < m := by omega
      rcases a with a | ⟨a1, a2⟩
      · rcases b with b | ⟨b1, b2⟩
        · exact Or.inl (ih hk' a b)
        · exact Or.inr ⟨ih hk' a b1, b2⟩
      · rcases b with b | ⟨b1, b2⟩
        · exact Or.inr ⟨a1, ih hk' a2 b⟩
        · exact Or.inr ⟨a1, b2⟩
theorem RC.up {L : Nat → Nat → Prop} {i j : Nat} (h : L i j) : ∀ m, RC L m i j := by
  intro m
  induction m with
  | zero => exact h
  | succ m ih => exact Or.inl ih
theorem RC.iff {L : Nat → Nat → Prop} {n : Nat} (hL : ∀ i j, L i j → j < n) {i j : Nat} : RC L n i j ↔ Relation.TransGen L i j := by
  constructor
  · intro h
    have G : ∀ m, ∀ i j, RC L m i j → Relation.TransGen L i j := by
      intro m
      induction m with
      | zero => intro i j h; exact Relation.TransGen.single h
      | succ m ih =>
        intro i j h
        rcases h with h | ⟨a, b⟩
        · exact ih i j h
        · exact (ih _ _ a).trans (ih _ _ b)
    exact G n i j h
  · intro h
    induction h with
    | single h => exact RC.up h n
    | tail h1 h2 ih => 
      rename_i b c
      have hb : b < n := by
        cases h1 with
        | single h => exact hL _ _ h
        | tail _ h => exact hL _ _ h
      exact RC.trans n hb ih (RC.up h2 n)
/-- of more numbers than there are two are the same -/
theorem pigeon : ∀ (n : Nat) (a : Nat → Nat), (∀ i, i ≤ n → a i < n) → ∃ i j, i < j ∧ j ≤ n ∧ a i = a j := by
  intro n
  induction n with
  | zero => intro a h; exact absurd (h 0 (Nat.le_refl 0)) (Nat.not_lt_zero _)
  | succ n ih =>
    intro a h
    by_cases q : ∃ i, i ≤ n ∧ a i = a (n + 1)
    · obtain ⟨i, hi, e⟩ := q
      exact ⟨i, n + 1, by omega, Nat.le_refl _, e⟩
    · -- the last one's number is given to the one that has n
      have hne : ∀ i, i ≤ n → a i ≠ a (n + 1) := fun i hi e => q ⟨i, hi, e⟩
      obtain ⟨i, j, h1, h2, h3⟩ := ih (fun i => if a i = n then a (n + 1) else a i) (fun i hi => by
        have h1 := h i (by omega)
        have h2 := h (n + 1) (Nat.le_refl _)
        have h3 := hne i hi
        show (if a i = n then a (n + 1) else a i) < n
        by_cases c : a i = n
        · rw [if_pos c]; omega
        · rw [if_neg c]; omega)
      have h3 : (if a i = n then a (n + 1) else a i) = (if a j = n then a (n + 1) else a j) := h3
      refine ⟨i, j, h1, by omega, ?_⟩
      have n1 := hne i (by omega)
      have n2 := hne j (by omega)
      by_cases c1 : a i = n
      · by_cases c2 : a j = n
        · rw [c1, c2]
        · rw [if_pos c1, if_neg c2] at h3; exact absurd h3.symm n2
      · by_cases c2 : a j = n
        · rw [if_neg c1, if_pos c2] at h3; exact absurd h3 n1
        · rw [if_neg c1, if_neg c2] at h3; exact h3
/-- where each one leads on, one leads to itself -/
theorem cycle {R : Nat → Nat → Prop} {n : Nat} {D : Nat → Prop} {k : Nat} (hD : ∀ i, D i → i < n ∧ ∃ j, D j ∧ R i j) (hk : D k) : ∃ i, D i ∧ Relation.TransGen R i i := by
  have F : ∃ f : Nat → Nat, ∀ i, D i → D (f i) ∧ R i (f i) := by
    have E : ∀ i, ∃ j, D i → D j ∧ R i j := fun i => by
      by_cases h : D i
      · obtain ⟨j, hj⟩ := (hD i h).2
        exact ⟨j, fun _ => hj⟩
      · exact ⟨0, fun q => absurd q h⟩
    exact Classical.axiomOfChoice E
  obtain ⟨f, hf⟩ := F
  have I : ∀ m, D (Nat.repeat f m k) := by
    intro m
    induction m with
    | zero => exact hk
    | succ m ih => exact (hf _ ih).1
  have S : ∀ d i, Relation.TransGen R (Nat.repeat f i k) (Nat.repeat f (i + d + 1) k) := by
    intro d
    induction d with
    | zero => intro i; exact Relation.TransGen.single (hf _ (I i)).2
    | succ d ih => intro i; exact (ih i).tail (hf _ (I (i + d + 1))).2
  obtain ⟨i, j, h1, h2, h3⟩ := pigeon n (fun i => Nat.repeat f i k) (fun i _ => (hD _ (I i)).1)
  have := S (j - i - 1) i
  rw [show i + (j - i - 1) + 1 = j by omega, ← h3] at this
  exact ⟨_, I i, this⟩
end Bits
