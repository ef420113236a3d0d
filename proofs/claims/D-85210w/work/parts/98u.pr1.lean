/-! ===== PHASE 2: reading: words, numbers, corners ===== -/
section Read1
variable {N x h p hi all : Nat} {bA : Nat → Int} {σ σ' τ τ' s : gMem}
/-- a word stands from p to q -/
def WdA (bA : Nat → Int) (p q : Nat) (w : List Int) : Prop := p + w.length = q ∧ ∀ i, i < w.length → bA (p + i) = gl w i
theorem c_spells_l {a : Nat} {w : List Int} (c : CSt σ x bA hi all) (kx : Kx σ a w) (hw : ∀ i, i < w.length → 0 ≤ gl w i ∧ gl w i < 128) (w4 : w.length < 400) (hh : p + w.length ≤ hi) : ∀ (m i f : Nat), i + m = w.length → m < f → (∀ j, j < i → bA (p + j) = gl w j) → ∃ b : Bool, x6_spells_l20 N σ (x + 1) p a (fun y8 => if y8 = 0 ∨ y8 = 1 then some y8 else none) f 1 i = some (if b then 1 else 0) ∧ (b = true ↔ ∀ j, j < w.length → bA (p + j) = gl w j) := by
  obtain ⟨c1, c2, c3, c4, c5, c6, c7, t⟩ := c
  obtain ⟨k1, k2, k3⟩ := kx
  have l1 := t.2.2.1
  have l2 := t.2.2.2
  intro m
  induction m with
  | zero =>
    intro i f h1 h2 h3
    obtain ⟨f, rfl⟩ : ∃ j, f = j + 1 := ⟨f - 1, by omega⟩
    unfold x6_spells_l20
    rw [if_neg (by decide), if_pos k1, k2, w32_i (by omega) (by omega), if_pos (by omega), if_pos (by decide)]
    exact ⟨true, rfl, fun _ j hj => h3 j (by omega), fun _ => rfl⟩
  | succ m ih =>
    intro i f h1 h2 h3
    obtain ⟨f, rfl⟩ : ∃ j, f = j + 1 := ⟨f - 1, by omega⟩
    have e : ((p : Int) + (i : Int)).toNat = p + i := by omega
    have b := t.1 (p + i) (by omega)
    have g := hw i (by omega)
    unfold x6_spells_l20 x6_spells_l20_j54
    rw [if_neg (by decide), if_pos k1, k2, w32_i (by omega) (by omega), if_neg (by omega), if_pos c5, c6, if_pos (by omega), if_pos (by omega), e, tn, c7 _ (by omega), k3 i (by omega), inc32 (by omega)]
    by_cases q : sby (bA (p + i)) = gl w i
    · rw [if_neg (fun z => z q)]
      refine ih (i + 1) f (by omega) (by omega) (fun j hj => ?_)
      by_cases d : j = i
      · rw [d]; exact (sby_lo b.1 b.2 g.1 g.2).mp q
      · exact h3 j (by omega)
    · rw [if_pos q]
      obtain ⟨f', rfl⟩ : ∃ j, f = j + 1 := ⟨f - 1, by omega⟩
      unfold x6_spells_l20
      rw [if_pos rfl, if_pos (by decide)]
      refine ⟨false, rfl, fun z => (by cases z), fun z => ?_⟩
      exact absurd ((sby_lo b.1 b.2 g.1 g.2).mpr (z i (by omega))) q
theorem c_spells {a q : Nat} {w : List Int} (hN : 500 ≤ N) (c : CSt σ x bA hi all) (kx : Kx σ a w) (hw : ∀ i, i < w.length → 0 ≤ gl w i ∧ gl w i < 128) (w4 : w.length < 400) (pq : p ≤ q) (hq : q ≤ hi) : ∃ b : Bool, x6_spells N (x + 1) p q a σ = some (if b then 1 else 0) ∧ (b = true ↔ WdA bA p q w) := by
  have t := c.2.2.2.2.2.2.2
  have l1 := t.2.2.1
  have l2 := t.2.2.2
  have k1 := kx.1
  have k2 := kx.2.1
  unfold x6_spells x6_spells_j15 WdA
  rw [if_pos k1, k2, w32_i (x := (w.length : Int)) (by omega) (by omega), w32_i (by omega) (by omega)]
  by_cases e : p + w.length = q
  · rw [if_neg (by omega)]
    obtain ⟨b, h1, h2⟩ := c_spells_l (N := N) (p := p) c kx hw w4 (by omega) w.length 0 N (by omega) (by omega) (fun j hj => by omega)
    exact ⟨b, h1, h2.trans ⟨fun z => ⟨e, z⟩, fun z => z.2⟩⟩
  · rw [if_pos (by omega)]
    obtain ⟨f', rfl⟩ : ∃ j, N = j + 1 := ⟨N - 1, by omega⟩
    unfold x6_spells_l20
    rw [if_pos rfl, if_pos (by decide)]
    exact ⟨false, rfl, fun z => (by cases z), fun z => absurd z.1 e⟩
theorem t_isWord_l {a n : Nat} {w : List Int} (c : TSt τ h bA hi all) (kx : Kx τ a w) (w4 : w.length < 400) (hn : w.length = n) (p4 : p ≤ 400) : ∀ (m i f : Nat), i + m = n → m < f → (∀ j, j < i → bA (p + j) = gl w j) → ∃ b : Bool, tw_isWord_l13 N h τ p n a (some 1) f i = some (if b then 1 else 0) ∧ (b = true ↔ ∀ j, j < w.length → bA (p + j) = gl w j) := by
  obtain ⟨k1, k2, k3⟩ := kx
  intro m
  induction m with
  | zero =>
    intro i f h1 h2 h3
    obtain ⟨f, rfl⟩ : ∃ j, f = j + 1 := ⟨f - 1, by omega⟩
    unfold tw_isWord_l13
    rw [if_pos (by omega)]
    exact ⟨true, rfl, fun _ j hj => h3 j (by omega), fun _ => rfl⟩
  | succ m ih =>
    intro i f h1 h2 h3
    obtain ⟨f, rfl⟩ : ∃ j, f = j + 1 := ⟨f - 1, by omega⟩
    have e : w32 ((p : Int) + (i : Int)) = ((p + i : Nat) : Int) := by rw [w32_i (by omega) (by omega)]; omega
    unfold tw_isWord_l13
    rw [if_neg (by omega), e, t_byteAt c, Option.bind_some, if_pos k1, k2, if_pos (by omega), tn, k3 i (by omega), inc32 (by omega)]
    by_cases q : bA (p + i) = gl w i
    · rw [if_pos q]
      refine ih (i + 1) f (by omega) (by omega) (fun j hj => ?_)
      by_cases d : j = i
      · rw [d]; exact q
      · exact h3 j (by omega)
    · rw [if_neg q]
      exact ⟨false, rfl, fun z => (by cases z), fun z => absurd (z i (by omega)) q⟩
theorem t_isWord {a n : Nat} {w : List Int} (hN : 500 ≤ N) (c : TSt τ h bA hi all) (kx : Kx τ a w) (w4 : w.length < 400) (p4 : p ≤ 400) (n4 : n ≤ 400) : ∃ b : Bool, tw_isWord N h p n a τ = some (if b then 1 else 0) ∧ (b = true ↔ WdA bA p (p + n) w) := by
  have k1 := kx.1
  have k2 := kx.2.1
  unfold tw_isWord WdA
  rw [if_pos k1, k2, w32_i (by omega) (by omega)]
  by_cases e : w.length = n
  · rw [if_pos (by omega)]
    obtain ⟨b, h1, h2⟩ := t_isWord_l (N := N) c kx w4 e p4 n 0 N (by omega) (by omega) (fun j hj => by omega)
    exact ⟨b, h1, h2.trans ⟨fun z => ⟨by omega, z⟩, fun z => z.2⟩⟩
  · rw [if_neg (by omega)]
    exact ⟨false, rfl, fun z => (by cases z), fun z => absurd z.1 (by omega)⟩
/-- a number in decimals -/
def dgv (bA : Nat → Int) : Nat → Nat → Int → Int
  | _, 0, acc => acc
  | p, m + 1, acc => dgv bA (p + 1) m (10 * acc + bA p - 48)
def dgN (bA : Nat → Int) (p q : Nat) : Int := dgv bA p (q - p) 0
theorem dgv_b {bA : Nat → Int} : ∀ (m p : Nat) (acc : Int) (B : Nat), (∀ k, p ≤ k → k < p + m → isD (bA k) = true) → 0 ≤ acc → acc < B → 0 ≤ dgv bA p m acc ∧ dgv bA p m acc < ((B * 10 ^ m : Nat) : Int) := by
  intro m
  induction m with
  | zero => intro p acc B _ h1 h2; unfold dgv; rw [Nat.pow_zero, Nat.mul_one]; exact ⟨h1, h2⟩
  | succ m ih =>
    intro p acc B hd h1 h2
    have d := of_decide_eq_true (hd p (Nat.le_refl _) (by omega))
    have := ih (p + 1) (10 * acc + bA p - 48) (B * 10) (fun k k1 k2 => hd k (by omega) (by omega)) (by omega) (by omega)
    unfold dgv
    rw [Nat.pow_succ, Nat.mul_comm (10 ^ m) 10, ← Nat.mul_assoc]
    exact this
theorem dgN_b {bA : Nat → Int} {p q : Nat} (hd : ∀ k, p ≤ k → k < q → isD (bA k) = true) (h : q - p ≤ 15) : 0 ≤ dgN bA p q ∧ dgN bA p q < 1000000000000000 := by
  have := dgv_b (q - p) p 0 1 (fun k k1 k2 => hd k k1 (by omega)) (by omega) (by omega)
  refine ⟨this.1, ?_⟩
  have l : 1 * 10 ^ (q - p) ≤ 10 ^ 15 := by rw [Nat.one_mul]; exact Nat.pow_le_pow_right (by decide) h
  have : dgN bA p q < ((1 * 10 ^ (q - p) : Nat) : Int) := this.2
  omega
theorem c_dig_l {q : Nat} (c : CSt σ x bA hi all) (hq : q ≤ hi) : ∀ (m p f : Nat) (acc : Int) (B : Nat), p + m = q → m < f → (∀ k, p ≤ k → k < q → isD (bA k) = true) → 0 ≤ acc → acc < B → B * 10 ^ m ≤ 1000000000000000000 → x6_digits_l5 N σ (x + 1429) q (fun y4 => some y4) f acc p = some (dgv bA p m acc) := by
  obtain ⟨c1, c2, c3, c4, c5, c6, c7, t⟩ := c
  have l1 := t.2.2.1
  have l2 := t.2.2.2
  intro m
  induction m with
  | zero =>
    intro p f acc B h1 h2 h3 h4 h5 h6
    obtain ⟨f, rfl⟩ : ∃ j, f = j + 1 := ⟨f - 1, by omega⟩
    unfold x6_digits_l5 dgv
    rw [if_pos (by omega)]
  | succ m ih =>
    intro p f acc B h1 h2 h3 h4 h5 h6
    obtain ⟨f, rfl⟩ : ∃ j, f = j + 1 := ⟨f - 1, by omega⟩
    have d := of_decide_eq_true (h3 p (Nat.le_refl _) (by omega))
    have es : sby (bA p) = bA p := by unfold sby; rw [if_pos (by omega)]
    have pw : B * 10 ≤ B * 10 * 10 ^ m := Nat.le_mul_of_pos_right _ (Nat.pow_pos (by decide))
    have e10 : B * 10 ^ (m + 1) = B * 10 * 10 ^ m := by rw [Nat.pow_succ, Nat.mul_comm (10 ^ m) 10, ← Nat.mul_assoc]
    unfold x6_digits_l5 dgv
    rw [if_neg (by omega), if_pos c1, c4, if_pos c5, c6, if_pos (by omega), tn, c7 p (by omega), es, inc32 (by omega), w64_i (by omega) (by omega)]
    exact ih (p + 1) f _ (B * 10) (by omega) (by omega) (fun k k1 k2 => h3 k (by omega) k2) (by omega) (by omega) (by rw [← e10]; exact h6)
theorem c_dig {q : Nat} (hN : 500 ≤ N) (c : CSt σ x bA hi all) (hq : q ≤ hi) (pq : p ≤ q) (hd : ∀ k, p ≤ k → k < q → isD (bA k) = true) (h : q - p ≤ 15) : x6_digits N (x + 1429) p q σ = some (dgN bA p q) := by
  have t := c.2.2.2.2.2.2.2
  have l1 := t.2.2.1
  have l2 := t.2.2.2
  have l : 1 * 10 ^ (q - p) ≤ 10 ^ 15 := by rw [Nat.one_mul]; exact Nat.pow_le_pow_right (by decide) h
  exact c_dig_l c hq (q - p) p N 0 1 (by omega) (by omega) hd (by decide) (by decide) (by omega)
theorem t_numberFrom_l {q : Nat} (c : TSt τ h bA hi all) (hq : q ≤ hi) : ∀ (m p f : Nat) (acc : Int) (B : Nat), p + m = q → m < f → (∀ k, p ≤ k → k < q → isD (bA k) = true) → 0 ≤ acc → acc < B → B * 10 ^ m ≤ 1000000000000000000 → tw_numberFrom_l5 N h τ q (fun y2 => some y2) f acc p = some (dgv bA p m acc) := by
  obtain ⟨c1, c2, c3, t⟩ := c
  have l1 := t.2.2.1
  have l2 := t.2.2.2
  intro m
  induction m with
  | zero =>
    intro p f acc B h1 h2 h3 h4 h5 h6
    obtain ⟨f, rfl⟩ : ∃ j, f = j + 1 := ⟨f - 1, by omega⟩
    unfold tw_numberFrom_l5 dgv
    rw [if_pos (by omega)]
  | succ m ih =>
    intro p f acc B h1 h2 h3 h4 h5 h6
    obtain ⟨f, rfl⟩ : ∃ j, f = j + 1 := ⟨f - 1, by omega⟩
    have d := of_decide_eq_true (h3 p (Nat.le_refl _) (by omega))
    have pw : B * 10 ≤ B * 10 * 10 ^ m := Nat.le_mul_of_pos_right _ (Nat.pow_pos (by decide))
    have e10 : B * 10 ^ (m + 1) = B * 10 * 10 ^ m := by rw [Nat.pow_succ, Nat.mul_comm (10 ^ m) 10, ← Nat.mul_assoc]
    have e48 : (((48 : Fin 49) : Nat) : Int) = 48 := rfl
    have e10' : (((10 : Fin 11) : Nat) : Int) = 10 := rfl
    unfold tw_numberFrom_l5 dgv
    rw [if_neg (by omega), if_pos (by omega), tn, c3 p (by omega), inc32 (by omega), w64_i (by omega) (by omega)]
    exact ih (p + 1) f _ (B * 10) (by omega) (by omega) (fun k k1 k2 => h3 k (by omega) k2) (by omega) (by omega) (by rw [← e10]; exact h6)
theorem t_numberFrom {q : Nat} (hN : 500 ≤ N) (c : TSt τ h bA hi all) (hq : q ≤ hi) (pq : p ≤ q) (hd : ∀ k, p ≤ k → k < q → isD (bA k) = true) (hl : q - p ≤ 15) : tw_numberFrom N h p q τ = some (dgN bA p q) := by
  have t := c.2.2.2
  have l1 := t.2.2.1
  have l2 := t.2.2.2
  have l : 1 * 10 ^ (q - p) ≤ 10 ^ 15 := by rw [Nat.one_mul]; exact Nat.pow_le_pow_right (by decide) hl
  exact t_numberFrom_l c hq (q - p) p N 0 1 (by omega) (by omega) hd (by decide) (by decide) (by omega)
/-! corners -/
def ck1 (bA : Nat → Int) (p : Nat) : Nat := if bA p = 36 then p + 1 else p
def ck2 (bA : Nat → Int) (p : Nat) : Nat := if bA (ck1 bA p + 1) = 36 then ck1 bA p + 2 else ck1 bA p + 1
def ck3 (bA : Nat → Int) (p : Nat) : Nat := if isD (bA (ck2 bA p + 1)) then ck2 bA p + 2 else ck2 bA p + 1
/-- whether a corner begins at p -/
def isC (bA : Nat → Int) (p : Nat) : Bool := decide (65 ≤ bA (ck1 bA p) ∧ bA (ck1 bA p) ≤ 74) && (isD (bA (ck2 bA p)) && (!isD (bA (ck3 bA p)) && !isL (bA (ck3 bA p))))
def cRow (bA : Nat → Int) (p : Nat) : Int := if isD (bA (ck2 bA p + 1)) then 10 * (bA (ck2 bA p) - 48) + (bA (ck2 bA p + 1) - 48) else bA (ck2 bA p) - 48
def cCol (bA : Nat → Int) (p : Nat) : Int := bA (ck1 bA p) - 64
def cFix (bA : Nat → Int) (p : Nat) : Nat := (if bA p = 36 then 1 else 0) + (if bA (ck1 bA p + 1) = 36 then 2 else 0)
theorem ck_le (bA : Nat → Int) (p : Nat) : p ≤ ck1 bA p ∧ ck1 bA p ≤ p + 1 ∧ ck1 bA p + 1 ≤ ck2 bA p ∧ ck2 bA p ≤ ck1 bA p + 2 ∧ ck2 bA p + 1 ≤ ck3 bA p ∧ ck3 bA p ≤ ck2 bA p + 2 := by
  have a : p ≤ ck1 bA p ∧ ck1 bA p ≤ p + 1 := by unfold ck1; split <;> omega
  have b : ck1 bA p + 1 ≤ ck2 bA p ∧ ck2 bA p ≤ ck1 bA p + 2 := by unfold ck2; split <;> omega
  have d : ck2 bA p + 1 ≤ ck3 bA p ∧ ck3 bA p ≤ ck2 bA p + 2 := by unfold ck3; split <;> omega
  exact ⟨a.1, a.2, b.1, b.2, d.1, d.2⟩
theorem c_corner (c : CSt σ x bA hi all) (p4 : p ≤ 400) : x6_corner (x + 1429) p σ = some (if isC bA p then ((ck3 bA p - p : Nat) : Int) else 0) := by
  have c1 := c.1
  have L := ck_le bA p
  have J3 : ∀ k : Nat, k ≤ 410 → x6_corner_j83 σ (x + 1429) p k = some (if (!isD (bA k) && !isL (bA k)) = true then ((k - p : Int)) else 0) := by
    intro k hk
    unfold x6_corner_j83
    rw [if_pos c1, c_here c, Option.bind_some, c_isDigit, Option.bind_some, w32_i (by omega) (by omega)]
    cases isD (bA k) with
    | true => rfl
    | false =>
      rw [if_neg (by decide), Option.bind_some, c_isLetter, Option.bind_some]
      cases isL (bA k) <;> rfl
  have J2 : ∀ k : Nat, k ≤ 408 → x6_corner_j53 σ (x + 1429) p k = some (if (isD (bA k) && (!isD (bA (if isD (bA (k + 1)) then k + 2 else k + 1)) && !isL (bA (if isD (bA (k + 1)) then k + 2 else k + 1)))) = true then (((if isD (bA (k + 1)) then k + 2 else k + 1 : Nat) : Int) - p) else 0) := by
    intro k hk
    unfold x6_corner_j53
    rw [if_pos c1, c_here c, Option.bind_some, c_isDigit, Option.bind_some, inc32 (by omega), inc32 (by omega)]
    cases isD (bA k) with
    | false => rfl
    | true =>
      rw [if_pos (by decide), c_here c, Option.bind_some, c_isDigit, Option.bind_some]
      cases isD (bA (k + 1)) with
      | false =>
        rw [if_pos (by decide), J3 _ (by omega)]; rfl
      | true =>
        rw [if_neg (by decide), J3 _ (by omega)]; rfl
  have J1 : ∀ k : Nat, k ≤ 405 → x6_corner_j15 σ (x + 1429) p k = (if 65 ≤ bA k ∧ bA k ≤ 74 then x6_corner_j53 σ (x + 1429) p ((if bA (k + 1) = 36 then k + 2 else k + 1 : Nat) : Int) else some 0) := by
    intro k hk
    unfold x6_corner_j15
    rw [if_pos c1, c_here c, Option.bind_some, inc32 (by omega), inc32 (by omega)]
    by_cases q : bA k < 65
    · rw [if_pos q, if_neg (by omega)]
    · rw [if_neg q, Option.bind_some]
      by_cases q2 : bA k ≤ 74
      · rw [if_pos q2, if_pos (show 65 ≤ bA k ∧ bA k ≤ 74 by omega), c_here c, Option.bind_some]
        by_cases q3 : bA (k + 1) = 36
        · rw [if_neg (fun z => z q3), if_pos q3]
        · rw [if_pos q3, if_neg q3]
      · rw [if_neg q2, if_neg (by omega)]
  have e : x6_corner (x + 1429) p σ = x6_corner_j15 σ (x + 1429) p (ck1 bA p : Nat) := by
    unfold x6_corner ck1
    rw [if_pos c1, c_here c, Option.bind_some, inc32 (by omega)]
    by_cases q : bA p = 36
    · rw [if_neg (fun z => z q), if_pos q]
    · rw [if_pos q, if_neg q]
  rw [e, J1 _ (by omega)]
  unfold isC
  by_cases q : 65 ≤ bA (ck1 bA p) ∧ bA (ck1 bA p) ≤ 74
  · rw [if_pos q, decide_eq_true q, Bool.true_and]
    have e2 : (if bA (ck1 bA p + 1) = 36 then ck1 bA p + 2 else ck1 bA p + 1) = ck2 bA p := rfl
    rw [e2, J2 _ (by omega)]
    have e3 : (if isD (bA (ck2 bA p + 1)) = true then ck2 bA p + 2 else ck2 bA p + 1) = ck3 bA p := rfl
    rw [e3]
    congr 1
    split
    · omega
    · rfl
  · rw [if_neg q, decide_eq_false q, Bool.false_and]; rfl
end Read1
