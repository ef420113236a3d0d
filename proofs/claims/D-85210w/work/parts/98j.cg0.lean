/-! ===== PHASE 2: the first bit that is set ===== -/
section FirstBit
def tb3 (x : Int) (i : Nat) : Bool := (Int32.ofInt x).toBitVec.getLsbD i
theorem tb3_tb (x : Int) {i : Nat} (h : i < 32) : tb3 x i = tb x i := by
  unfold tb3 tb
  show (BitVec.ofInt 32 x).getLsbD i = (BitVec.ofInt 64 x).getLsbD i
  rw [← BitVec.testBit_toNat, ← BitVec.testBit_toNat, BitVec.toNat_ofInt, BitVec.toNat_ofInt]
  have e : (x % ((2 ^ 32 : Nat) : Int)).toNat = (x % ((2 ^ 64 : Nat) : Int)).toNat % 2 ^ 32 := by omega
  rw [e, Nat.testBit_mod_two_pow, decide_eq_true h, Bool.true_and]
theorem tb3_w (x : Int) (i : Nat) : tb3 (w32 x) i = tb3 x i := by unfold tb3 w32; rw [Int32.ofInt_toInt]
/-- what is below the first bit -/
theorem low_ones (x : BitVec 32) (n : Nat) (hn : n < 32) (h1 : x.getLsbD n = true) (h2 : ∀ i, i < n → x.getLsbD i = false) : (x ^^^ (-1#32)) &&& (x - 1#32) = BitVec.ofNat 32 (2 ^ n - 1) := by
  have hx : x.toNat % 2 ^ n = 0 := by
    apply Nat.eq_of_testBit_eq
    intro i
    rw [Nat.testBit_mod_two_pow, Nat.zero_testBit]
    by_cases c : i < n
    · rw [decide_eq_true c, Bool.true_and]; exact h2 i c
    · rw [decide_eq_false c]; rfl
  have hk : x.toNat = 2 ^ (n + 1) * (x.toNat / 2 ^ (n + 1)) + 2 ^ n := by
    have a := Nat.div_add_mod x.toNat (2 ^ (n + 1))
    have b : x.toNat % 2 ^ (n + 1) = 2 ^ n := by
      rw [Nat.pow_succ, Nat.mod_mul, hx]
      have : x.toNat / 2 ^ n % 2 = 1 := by
        have := h1
        rw [← BitVec.testBit_toNat, Nat.testBit_eq_decide_div_mod_eq] at this
        exact of_decide_eq_true this
      rw [this]; omega
    rw [b] at a; exact a.symm
  generalize x.toNat / 2 ^ (n + 1) = k at hk
  have hl := x.isLt
  have pn : 0 < 2 ^ n := Nat.two_pow_pos n
  have ps : 2 ^ (n + 1) = 2 ^ n + 2 ^ n := by rw [Nat.pow_succ]; omega
  have hm : (x - 1#32).toNat = 2 ^ (n + 1) * k + (2 ^ n - 1) := by
    rw [BitVec.toNat_sub]
    show (2 ^ 32 - 1 + x.toNat) % 2 ^ 32 = _
    rw [show 2 ^ 32 - 1 + x.toNat = (x.toNat - 1) + 2 ^ 32 by omega, Nat.add_mod_right, Nat.mod_eq_of_lt (by omega)]
    omega
  apply BitVec.eq_of_getLsbD_eq
  intro i hi
  rw [BitVec.getLsbD_and, BitVec.getLsbD_xor]
  have e1 : (-1#32).getLsbD i = true := by
    have : ∀ i, i < 32 → (-1#32).getLsbD i = true := by decide
    exact this i hi
  rw [e1, Bool.xor_true, ← BitVec.testBit_toNat, ← BitVec.testBit_toNat, hm, hk, BitVec.getLsbD_ofNat, decide_eq_true hi, Bool.true_and]
  rw [Nat.testBit_two_pow_mul_add _ (by omega), Nat.testBit_two_pow_mul_add _ (by omega)]
  by_cases c : i < n + 1
  · rw [if_pos c, if_pos c, Nat.testBit_two_pow, Nat.testBit_two_pow_sub_one]
    by_cases d : n = i
    · rw [decide_eq_true d, decide_eq_false (show ¬ i < n by omega)]; rfl
    · rw [decide_eq_false d, decide_eq_true (show i < n by omega)]; rfl
  · rw [if_neg c, if_neg c, Nat.testBit_two_pow_sub_one, decide_eq_false (show ¬ i < n by omega)]
    cases k.testBit (i - (n + 1)) <;> rfl
def ntzC (v : Int) : Option Int := if 0 < v then (if v ≤ 65536 then j16_numberOfTrailingZeros_j34 ((fun _ _ => 0), ((fun _ _ => 0), ((fun _ _ => 0), ((fun _ => 0), ((fun _ => 0), (0, 0)))))) v 1 else j16_numberOfTrailingZeros_j34 ((fun _ _ => 0), ((fun _ _ => 0), ((fun _ _ => 0), ((fun _ => 0), ((fun _ => 0), (0, 0)))))) (bUshr v 16) (w32 (1 + 16))) else some (bAnd v 32)
theorem ntzC_ok : ∀ n : Nat, n < 32 → ntzC (BitVec.ofNat 32 (2 ^ n - 1)).toInt = some (n : Int) := by decide +kernel
theorem j34_mem (s s' : gMem) (v w : Int) : j16_numberOfTrailingZeros_j34 s v w = j16_numberOfTrailingZeros_j34 s' v w := by
  unfold j16_numberOfTrailingZeros_j34 j16_numberOfTrailingZeros_j49 j16_numberOfTrailingZeros_j62; rfl
theorem ntz32 {x : Int} {σ : gMem} {n : Nat} (hn : n < 32) (h1 : tb3 x n = true) (h2 : ∀ i, i < n → tb3 x i = false) : j16_numberOfTrailingZeros x σ = some (n : Int) := by
  have e : bAnd (bXor x (-1)) (x - 1) = (BitVec.ofNat 32 (2 ^ n - 1)).toInt := by
    rw [← low_ones (Int32.ofInt x).toBitVec n hn h1 h2]
    unfold bAnd bXor
    rw [Int32.ofInt_toInt]
    show ((Int32.ofInt x ^^^ Int32.ofInt (-1)) &&& Int32.ofInt (x - 1)).toBitVec.toInt = _
    rw [Int32.toBitVec_and, Int32.toBitVec_xor, Int32.ofInt_sub, Int32.toBitVec_sub]
    rfl
  have := ntzC_ok n hn
  unfold ntzC at this
  unfold j16_numberOfTrailingZeros
  rw [e, ← this]
  rw [j34_mem σ ((fun _ _ => 0), ((fun _ _ => 0), ((fun _ _ => 0), ((fun _ => 0), ((fun _ => 0), (0, 0)))))), j34_mem σ ((fun _ _ => 0), ((fun _ _ => 0), ((fun _ _ => 0), ((fun _ => 0), ((fun _ => 0), (0, 0)))))) (bUshr _ 16)]
theorem tb3_zero {x : Int} : w32 x = 0 ↔ ∀ i, i < 32 → tb3 x i = false := by
  constructor
  · intro e i _
    rw [← tb3_w, e]
    unfold tb3; show (0#32).getLsbD i = false; simp
  · intro h
    have : Int32.ofInt x = Int32.ofInt 0 := by
      apply Int32.toBitVec_inj.mp
      refine BitVec.eq_of_getLsbD_eq (fun i hi => ?_)
      have a := h i hi
      unfold tb3 at a
      rw [a]
      show false = (0#32).getLsbD i
      simp
    unfold w32
    rw [this]; rfl
theorem least_of {P : Nat → Bool} : ∀ m, (∀ i, i < m → P i = false) ∨ ∃ n, n < m ∧ P n = true ∧ ∀ i, i < n → P i = false := by
  intro m
  induction m with
  | zero => exact Or.inl (fun i hi => by omega)
  | succ m ih =>
    rcases ih with h | ⟨n, h1, h2, h3⟩
    · cases e : P m with
      | true => exact Or.inr ⟨m, by omega, e, h⟩
      | false => exact Or.inl (fun i hi => by
          by_cases c : i = m
          · rw [c]; exact e
          · exact h i (by omega))
    · exact Or.inr ⟨n, by omega, h2, h3⟩
theorem tb_ushr {x : Int} {i : Nat} (h : i < 32) : tb (lUshr x 32) i = tb x (32 + i) := by
  unfold tb lUshr
  rw [Int64.ofInt_toInt]
  show ((Int64.ofInt x).toUInt64 >>> ((Int32.ofInt 32).toInt64.toUInt64 &&& Int64.toUInt64 63)).toBitVec.getLsbD i = _
  rw [UInt64.toBitVec_shiftRight]
  have : (((Int32.ofInt 32).toInt64.toUInt64 &&& Int64.toUInt64 63).toBitVec % 64) = 32#64 := by decide +kernel
  show ((Int64.ofInt x).toBitVec >>> (((Int32.ofInt 32).toInt64.toUInt64 &&& Int64.toUInt64 63).toBitVec % 64)).getLsbD i = _
  rw [this, BitVec.ushiftRight_eq', BitVec.getLsbD_ushiftRight]
  rfl
/-- of a long that is not 0 the first bit -/
theorem ntz64 {x : Int} {σ : gMem} (hx : g64 x) (h0 : x ≠ 0) : ∃ n : Nat, n < 64 ∧ j15_numberOfTrailingZeros x σ = some (n : Int) ∧ tb x n = true ∧ ∀ i, i < n → tb x i = false := by
  unfold j15_numberOfTrailingZeros
  rcases least_of (P := tb x) 64 with h | ⟨n, h1, h2, h3⟩
  · exact absurd ((tb_zero hx).mpr h) h0
  · refine ⟨n, h1, ?_, h2, h3⟩
    by_cases c : n < 32
    · rw [if_pos (fun q => by have := (tb3_zero.mp q) n c; rw [tb3_tb x c, h2] at this; cases this)]
      rw [ntz32 c (by rw [tb3_w, tb3_tb x c]; exact h2) (fun i hi => by rw [tb3_w, tb3_tb x (by omega)]; exact h3 i hi)]
      rfl
    · rw [if_neg (fun q => q (tb3_zero.mpr (fun i hi => by rw [tb3_tb x hi]; exact h3 i (by omega))))]
      rw [ntz32 (n := n - 32) (by omega) (by rw [tb3_w, tb3_tb _ (by omega), tb_ushr (by omega), show 32 + (n - 32) = n by omega]; exact h2) (fun i hi => by rw [tb3_w, tb3_tb _ (by omega), tb_ushr (by omega)]; exact h3 _ (by omega))]
      show some (w32 (32 + ((n - 32 : Nat) : Int))) = _
      rw [w32_i (by omega) (by omega)]
      congr 1; omega
end FirstBit
