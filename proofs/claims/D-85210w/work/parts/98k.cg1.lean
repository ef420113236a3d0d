/-! ===== PHASE 2: the component's graph: its place, the first that is led to ===== -/
section CoGraph1
variable {N L : Nat} {σ σ' s : gMem}
/-- where cells' ways are found -/
def LK (σ : gMem) (L : Nat) : Prop :=
  mT σ L = 4 ∧ (∀ i, i < 9 → mR σ L i = L + 1 + i) ∧ mT σ (L + 1) = 101 ∧ mN σ (L + 1) = 1600 ∧ (∀ i, 2 ≤ i → i < 8 → mT σ (L + i) = 100) ∧ mT σ (L + 8) = 103 ∧ mT σ (L + 9) = 103 ∧ ∀ i, 2 ≤ i → i < 10 → mN σ (L + i) = 320
def Lq (L a : Nat) (_ : Nat) : Prop := L ≤ a ∧ a ≤ L + 9
theorem LK.ex {P : Nat → Nat → Prop} (k : LK σ L) (x : Ex P σ σ') : LK σ' L := by unfold LK; rw [x.rT, x.rN, x.rR]; exact k
theorem LK.r {i : Nat} (k : LK σ L) (h : i < 9) : mR σ L i = L + 1 + i := k.2.1 i h
theorem LK.t {i : Nat} (k : LK σ L) (h : 2 ≤ i) (h' : i < 8) : mT σ (L + i) = 100 := k.2.2.2.2.1 i h h'
theorem LK.n {i : Nat} (k : LK σ L) (h : 2 ≤ i) (h' : i < 10) : mN σ (L + i) = 320 := k.2.2.2.2.2.2.2 i h h'
theorem bShr6 : ∀ n : Nat, n ≤ 320 → bShr (n : Int) 6 = ((n / 64 : Nat) : Int) := by decide +kernel
theorem mL_rng' (σ : gMem) (a k : Nat) : g64 (mL σ a k) := mL_rng σ a k
/-- what the first of a row is -/
def FstB (f : Nat → Bool) (j : Nat) (r : Int) : Prop := (r = -1 ∧ ∀ k, j ≤ k → k < 320 → f k = false) ∨ ∃ b : Nat, r = b ∧ j ≤ b ∧ b < 320 ∧ f b = true ∧ ∀ k, j ≤ k → k < b → f k = false
theorem c_first_j {a j i : Nat} {v : Int} (hi : i ≤ 4) (hv : g64 v) (h0 : v = 0 → i = 4) (hw : ∀ b, b < 64 → tb v b = (decide (j ≤ 64 * i + b) && BT σ (L + 1) a (64 * i + b))) (hb : ∀ k, j ≤ k → k < 64 * i → BT σ (L + 1) a k = false) : Ev (x4_first_j62 N σ i v) (FstB (BT σ (L + 1) a) j) := by
  unfold x4_first_j62
  rw [c0L]
  by_cases c : v = 0
  · refine Ev.f (fun z => z (gcmp_eq.mpr c)) (Ev.r (Or.inl ⟨rfl, fun k h1 h2 => ?_⟩))
    have i4 := h0 c
    by_cases q : k < 64 * i
    · exact hb k h1 q
    · have := hw (k - 64 * i) (by omega)
      rw [c, tb_0, show 64 * i + (k - 64 * i) = k by omega, decide_eq_true h1, Bool.true_and] at this
      exact this.symm
  · obtain ⟨n, n1, n2, n3, n4⟩ := ntz64 (σ := σ) hv c
    refine Ev.g (fun z => c (gcmp_eq.mp z)) (Ev.e n2 (Ev.r (Or.inr ⟨64 * i + n, ?_, ?_, by omega, ?_, fun k h1 h2 => ?_⟩)))
    · rw [w32_i (by omega) (by omega)]; omega
    · have := hw n n1
      rw [n3] at this
      have := (Bool.and_eq_true _ _ ▸ this.symm)
      exact of_decide_eq_true this.1
    · have := hw n n1
      rw [n3] at this
      have := (Bool.and_eq_true _ _ ▸ this.symm)
      exact this.2
    · by_cases q : k < 64 * i
      · exact hb k h1 q
      · have := hw (k - 64 * i) (by omega)
        rw [n4 _ (by omega), show 64 * i + (k - 64 * i) = k by omega, decide_eq_true h1, Bool.true_and] at this
        exact this.symm
theorem c_first_l {a j : Nat} (lk : LK σ L) (ha : a < 320) : ∀ (m i f : Nat) (v : Int), i + m = 4 → m < f → j < 64 * (i + 1) → g64 v → (∀ b, b < 64 → tb v b = (decide (j ≤ 64 * i + b) && BT σ (L + 1) a (64 * i + b))) → (∀ k, j ≤ k → k < 64 * i → BT σ (L + 1) a k = false) → Ev (x4_first_l32 N σ L a (fun y7 y8 => x4_first_j62 N σ y7 y8) f i v) (FstB (BT σ (L + 1) a) j) := by
  intro m
  induction m with
  | zero =>
    intro i f v h1 h2 h3 h4 h5 h6
    obtain ⟨f, rfl⟩ : ∃ j, f = j + 1 := ⟨f - 1, by omega⟩
    unfold x4_first_l32
    rw [c0L]
    by_cases c : v = 0
    · exact Ev.f (fun z => z (gcmp_eq.mpr c)) (Ev.g (by omega) (c_first_j (by omega) h4 (fun _ => by omega) h5 h6))
    · exact Ev.g (fun z => c (gcmp_eq.mp z)) (c_first_j (by omega) h4 (fun z => absurd z c) h5 h6)
  | succ m ih =>
    intro i f v h1 h2 h3 h4 h5 h6
    obtain ⟨f, rfl⟩ : ∃ j, f = j + 1 := ⟨f - 1, by omega⟩
    unfold x4_first_l32
    rw [c0L]
    by_cases c : v = 0
    · have e : (5 * (a : Int) + ((i + 1 : Nat) : Int)).toNat = 5 * a + (i + 1) := by omega
      refine Ev.f (fun z => z (gcmp_eq.mpr c)) (Ev.f (by omega) (Ev.g lk.1 ?_))
      rw [lk.r (by omega), Nat.add_zero, inc32 (by omega), e, lk.2.2.2.1]
      refine Ev.g lk.2.2.1 (Ev.g (by omega) (ih (i + 1) f _ (by omega) (by omega) (by omega) (mL_rng' _ _ _) (fun b hb => ?_) (fun k k1 k2 => ?_)))
      · rw [decide_eq_true (show j ≤ 64 * (i + 1) + b by omega), Bool.true_and]
        unfold BT
        rw [show (64 * (i + 1) + b) / 64 = i + 1 by omega, show (64 * (i + 1) + b) % 64 = b by omega]
      · by_cases q : k < 64 * i
        · exact h6 k k1 q
        · have := h5 (k - 64 * i) (by omega)
          rw [c, tb_0, show 64 * i + (k - 64 * i) = k by omega, decide_eq_true k1, Bool.true_and] at this
          exact this.symm
    · exact Ev.g (fun z => c (gcmp_eq.mp z)) (c_first_j (by omega) h4 (fun z => absurd z c) h5 h6)
theorem c_first {a j : Nat} (lk : LK σ L) (hN : 10 ≤ N) (ha : a < 320) (hj : j ≤ 320) : Ev (x4_first N L a j σ) (FstB (BT σ (L + 1) a) j) := by
  unfold x4_first
  by_cases c : j < 320
  · have e : (5 * (a : Int) + ((j / 64 : Nat) : Int)).toNat = 5 * a + j / 64 := by omega
    refine Ev.g (by omega) (Ev.g lk.1 ?_)
    rw [lk.r (by omega), Nat.add_zero, bShr6 j hj, e, lk.2.2.2.1]
    refine Ev.g lk.2.2.1 (Ev.g (by omega) (c_first_l lk ha (4 - j / 64) (j / 64) N _ (by omega) (by omega) (by omega) (lAnd_rng _ _) (fun b hb => ?_) (fun k h1 h2 => by omega)))
    rw [tb_and, tb_ones c hb, Bool.and_comm]
    unfold BT
    rw [show (64 * (j / 64) + b) / 64 = j / 64 by omega, show (64 * (j / 64) + b) % 64 = b by omega]
    congr 1
    by_cases q : j % 64 ≤ b
    · rw [decide_eq_true q, decide_eq_true (by omega)]
    · rw [decide_eq_false q, decide_eq_false (by omega)]
  · exact Ev.f (by omega) (Ev.r (Or.inl ⟨rfl, fun k h1 h2 => by omega⟩))
theorem c_leads {a b : Nat} (lk : LK σ L) (ha : a < 320) (hb : b < 320) : x4_leads L a b σ = some (if BT σ (L + 1) a b then 1 else 0) := by
  unfold x4_leads BT
  have e : (5 * (a : Int) + ((b / 64 : Nat) : Int)).toNat = 5 * a + b / 64 := by omega
  rw [if_pos lk.1, lk.r (by omega), Nat.add_zero, bShr6 b (by omega), e, lk.2.2.2.1, if_pos lk.2.2.1, if_pos (by omega), c1L, bit_at _ hb]
  cases tb (mL σ (L + 1) (5 * a + b / 64)) (b % 64) with
  | true => rw [if_neg (fun q => q rfl)]; rfl
  | false => rw [if_pos (by decide)]; rfl
theorem c_add {k r c : Nat} (lk : LK σ L) (hk : mI σ L 9 = k) (k3 : k < 320) (hr : r < 32) (hc : c < 10) : Ev (x4_add L r c σ) (fun s => Ex (fun a _ => a = L + 1) σ s ∧ ∀ p q, q < 320 → BT s (L + 1) p q = (BT σ (L + 1) p q || decide (p = k ∧ q = 10 * r + c))) := by
  unfold x4_add
  have e : w32 (10 * (r : Int) + (c : Int)) = ((10 * r + c : Nat) : Int) := by rw [w32_i (by omega) (by omega)]; omega
  have e2 : (5 * (k : Int) + (((10 * r + c) / 64 : Nat) : Int)).toNat = 5 * k + (10 * r + c) / 64 := by omega
  rw [lk.r (by omega), Nat.add_zero, e, bShr6 _ (by omega), hk, lk.2.2.2.1, e2, c1L]
  refine Ev.g lk.1 (Ev.g lk.2.2.1 (Ev.g (by omega) (Ev.g (by omega) (Ev.l (Ev.r ⟨Ex.rf.L rfl, fun p q hq => ?_⟩)))))
  unfold BT
  rw [mL_wL]
  by_cases z : 5 * p + q / 64 = 5 * k + (10 * r + c) / 64
  · rw [if_pos ⟨rfl, z⟩, w64_id (lOr_rng _ _), tb_or, tb_one (by omega) (by omega), z]
    congr 1
    by_cases y : q % 64 = (10 * r + c) % 64
    · rw [decide_eq_true y, decide_eq_true (by omega)]
    · rw [decide_eq_false y, decide_eq_false (by omega)]
  · rw [if_neg (fun y => z y.2), decide_eq_false (fun y => z (by rw [y.1, y.2])), Bool.or_false]
end CoGraph1
