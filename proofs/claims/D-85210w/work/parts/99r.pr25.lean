/-! ===== PHASE 2: reading: what a name takes ===== -/
section Read25
variable {N x h hi all nv sh M lu0 b b' p q op pa pi : Nat} {bA : Nat → Int} {f : Int → List Int × List Int} {σ σ' σ'' τ τ' τ'' s r σ0 τ0 σ1 τ2 : gMem} {p0 pa0 nd k lu : Nat}
/-- a name's part number i must be an area; may be one -/
def mstA (k i : Nat) : Bool := decide ((k = 12 ∧ i = 1) ∨ ((k = 13 ∨ k = 14) ∧ i = 0))
def mayA (k i : Nat) : Bool := decide (k = 1 ∨ k = 2 ∨ (5 ≤ k ∧ k ≤ 8) ∨ (k = 12 ∧ i = 1) ∨ ((k = 13 ∨ k = 14) ∧ i = 0))
theorem mst_bits : ∀ k : Nat, k < 18 → ∀ i : Nat, i < 8 → (bAnd (bShr ((gnm.getD k []).getD 4 0) (i : Int)) 1 = 1 ↔ mstA k i = true) ∧ (bAnd (bShr ((gnm.getD k []).getD 5 0) (i : Int)) 1 = 1 ↔ mayA k i = true) := by decide
theorem gPN {t : Nat} (g : gPart t = true) : gNode t = true := by
  have b := gPart_t g
  have z : ∀ t : Nat, t < 21 → gPart t = true → gNode t = true := by decide
  exact z t (by omega) g
/-- what a name takes, by the class's tags -/
def tkC (k i t : Nat) : Bool := if mstA k i then decide (t = 17 ∨ t = 13) else if k = 16 ∨ k = 17 then decide (t = 15 ∨ t = 13) else if t = 17 then mayA k i else true
theorem c_takes {i : Nat} (kc : KC s) (hk : k < 18) (hi' : i < 8) (gp : gPart (mT s nd) = true) : x7_takes (mR s 0 k) i nd s = some (if tkC k i (mT s nd) then 1 else 0) := by
  obtain ⟨n1, n2, n3⟩ := kc.2.1 k hk
  obtain ⟨m1, m2⟩ := mst_bits k hk i hi'
  have g := gPN gp
  have e16 : (mR s 0 k = mR s 0 16 ∨ mR s 0 k = mR s 0 17) ↔ (k = 16 ∨ k = 17) := by
    have o0 := (kc.kn k hk).2
    have o1 := (kc.kn 16 (by decide)).2
    have o2 := (kc.kn 17 (by decide)).2
    constructor
    · rintro (z | z)
      · rw [z, o1] at o0; omega
      · rw [z, o2] at o0; omega
    · rintro (z | z)
      · rw [z]; exact Or.inl rfl
      · rw [z]; exact Or.inr rfl
  unfold x7_takes tkC
  rw [if_pos n1, n2 4, n2 5, c_wants]
  by_cases a : mstA k i = true
  · rw [if_neg (fun z => z (m1.mpr a)), if_pos a, if_pos (Or.inr g), if_pos (Or.inr g)]
    by_cases t17 : mT s nd = 17
    · rw [if_pos t17, if_pos (decide_eq_true (Or.inl t17))]
    · rw [if_neg t17]
      by_cases t13 : mT s nd = 13
      · rw [if_pos t13, if_pos (decide_eq_true (Or.inr t13))]
      · rw [if_neg t13, if_neg (fun z => (of_decide_eq_true z).elim t17 t13)]
  · rw [if_pos (fun z => a (m1.mp z)), if_neg a, Option.bind_some]
    by_cases w : k = 16 ∨ k = 17
    · rw [if_pos (e16.mpr w), if_neg (by decide), if_pos (Or.inr g), if_pos (Or.inr g), if_pos w]
      by_cases t15 : mT s nd = 15
      · rw [if_pos t15, if_pos (decide_eq_true (Or.inl t15))]
      · rw [if_neg t15]
        by_cases t13 : mT s nd = 13
        · rw [if_pos t13, if_pos (decide_eq_true (Or.inr t13))]
        · rw [if_neg t13, if_neg (fun z => (of_decide_eq_true z).elim t15 t13)]
    · rw [if_neg (fun z => w (e16.mp z)), if_pos rfl, if_pos (Or.inr g), if_neg w]
      by_cases t17 : mT s nd = 17
      · rw [if_pos t17, if_pos t17]
        by_cases y : mayA k i = true
        · rw [if_neg (fun z => z (m2.mpr y)), if_pos y]
        · rw [if_pos (fun z => y (m2.mp z)), if_neg y]
      · rw [if_neg t17, if_neg t17, if_pos rfl]
end Read25
