/-! ===== PHASE 2: reading: the pile of a call's parts ===== -/
section Read24
variable {N x h hi all nv sh M lu0 b b' p q op pa pi : Nat} {bA : Nat → Int} {f : Int → List Int × List Int} {σ σ' σ'' τ τ' τ'' s r σ0 τ0 σ1 τ2 : gMem} {p0 pa0 nd k lu : Nat} {W : Nat → gMem → Option gR} {Wt : gMem → Option gMem}
/-- a node is laid on the pile -/
theorem CF.wP {i v : Nat} (c : CF x σ s k) (hi' : mI σ (x + 1429) 11 ≤ (i : Int)) : CF x σ (wR s (x + 1430) i v) k := by
  obtain ⟨⟨z1, z2, z3, z4⟩, k2, i145, kz, ks, lt, np, pl, pm⟩ := c
  refine ⟨⟨z1, z2, z3, fun a ha hw j => ⟨(z4 a ha hw j).1, (z4 a ha hw j).2.1, by rw [mR_wR, if_neg (fun z => hw (Or.inr z.1))]; exact (z4 a ha hw j).2.2⟩⟩, fun j => by rw [mR_wR, if_neg (fun z => by omega)]; exact k2 j, i145, kz, ks, lt, fun q hq ht => ?_, pl, fun j hj => by rw [mR_wR, if_neg (fun z => by omega)]; exact pm j hj⟩
  rw [mR_wR, if_neg (fun z => by omega)]
  exact np q hq ht
/-- the pile's end is set -/
theorem CF.pile {v : Int} (c : CF x σ s k) (hv : mI σ (x + 1429) 11 ≤ v) (rg : -2147483648 ≤ v ∧ v ≤ 2147483647) : CF x σ (wI s (x + 1429) 11 v) k := by
  obtain ⟨⟨z1, z2, z3, z4⟩, k2, ⟨i1, i4, i5, i15⟩, kz, ks, lt, np, pl, pm⟩ := c
  exact ⟨⟨z1, z2, z3, fun a ha hw j => ⟨by rw [mIwI1 (fun z => hw (Or.inl z.1))]; exact (z4 a ha hw j).1, (z4 a ha hw j).2⟩⟩, k2, ⟨by rw [mIwI1 (by omega)]; exact i1, by rw [mIwI1 (by omega)]; exact i4, by rw [mIwI1 (by omega)]; exact i5, by rw [mIwI1 (by omega)]; exact i15⟩, kz, ks, lt, np, by rw [mIwI2 ⟨rfl, rfl⟩, w32_i rg.1 rg.2]; exact hv, pm⟩
/-- one more part of a call -/
theorem S2.push (S : S2 x h hi all nv sh M lu0 bA f σ τ p q op pa pi) (h1 : pi + 1 ≤ p) : S2 x h hi all nv sh M lu0 bA f (wI (wR σ (x + 1430) pi nd) (x + 1429) 11 ((pi + 1 : Nat) : Int)) τ p q op pa (pi + 1) ∧ CF x σ (wI (wR σ (x + 1430) pi nd) (x + 1429) 11 ((pi + 1 : Nat) : Int)) 0 ∧ mR (wI (wR σ (x + 1430) pi nd) (x + 1429) 11 ((pi + 1 : Nat) : Int)) (x + 1430) pi = nd ∧ ∀ j, j ≠ 11 → mI (wI (wR σ (x + 1430) pi nd) (x + 1429) 11 ((pi + 1 : Nat) : Int)) (x + 1429) j = mI σ (x + 1429) j := by
  obtain ⟨c, t, ⟨s1, s2, s3, s4⟩, ⟨t1, t2, t3, t4, t5⟩, ⟨l1, l2, l3⟩, b1, b2, b3, b4, b5, b6, b7⟩ := S
  have tx := c.1.2.2.2.2.2.2.2
  have h4 : hi ≤ 400 := by have := tx.2.2.1; have := tx.2.2.2; omega
  have cf : CF x σ (wI (wR σ (x + 1430) pi nd) (x + 1429) 11 ((pi + 1 : Nat) : Int)) 0 := ((CF.rf c).wP (by omega)).pile (by omega) (by omega)
  have fj : ∀ j, j ≠ 11 → mI (wI (wR σ (x + 1430) pi nd) (x + 1429) 11 ((pi + 1 : Nat) : Int)) (x + 1429) j = mI σ (x + 1429) j := fun j hj => by rw [mIwI1 (by omega)]; rfl
  refine ⟨⟨c.cf cf, t, ⟨by rw [fj 6 (by decide)]; exact s1, by rw [fj 7 (by decide)]; exact s2, by rw [fj 8 (by decide)]; exact s3, by rw [mIwI2 ⟨rfl, rfl⟩, w32_i (by omega) (by omega)]⟩, ⟨t1, t2, t3, t4, t5⟩, ⟨by rw [fj 14 (by decide)]; exact l1, by rw [fj 14 (by decide), fj 15 (by decide)]; exact l2, by rw [fj 14 (by decide)]; exact l3⟩, b1, b2, b3, h1, b5, b6, b7⟩, cf, ?_, fj⟩
  rw [mR_wI, mR_wR, if_pos ⟨rfl, rfl⟩]
/-- the parts of a call are taken off the pile -/
theorem S2.pop {pi' : Nat} (c0 : CR x hi all nv sh bA f σ0) (cf : CF x σ0 σ k) (h0 : mI σ0 (x + 1429) 11 = pi) (S : S2 x h hi all nv sh M lu0 bA f σ τ p q op pa pi') (hp : pi ≤ p) : S2 x h hi all nv sh M lu0 bA f (wI σ (x + 1429) 11 (pi : Int)) τ p q op pa pi ∧ CF x σ0 (wI σ (x + 1429) 11 (pi : Int)) k := by
  obtain ⟨c, t, ⟨s1, s2, s3, s4⟩, ⟨t1, t2, t3, t4, t5⟩, ⟨l1, l2, l3⟩, b1, b2, b3, b4, b5, b6, b7⟩ := S
  have tx := c.1.2.2.2.2.2.2.2
  have h4 : hi ≤ 400 := by have := tx.2.2.1; have := tx.2.2.2; omega
  have cf' : CF x σ0 (wI σ (x + 1429) 11 (pi : Int)) k := cf.pile (by omega) (by omega)
  have fj : ∀ j, j ≠ 11 → mI (wI σ (x + 1429) 11 (pi : Int)) (x + 1429) j = mI σ (x + 1429) j := fun j hj => by rw [mIwI1 (by omega)]
  exact ⟨⟨c0.cf cf', t, ⟨by rw [fj 6 (by decide)]; exact s1, by rw [fj 7 (by decide)]; exact s2, by rw [fj 8 (by decide)]; exact s3, by rw [mIwI2 ⟨rfl, rfl⟩, w32_i (by omega) (by omega)]⟩, ⟨t1, t2, t3, t4, t5⟩, ⟨by rw [fj 14 (by decide)]; exact l1, by rw [fj 14 (by decide), fj 15 (by decide)]; exact l2, by rw [fj 14 (by decide)]; exact l3⟩, b1, b2, b3, hp, b5, b6, b7⟩, cf'⟩
/-- how many parts a call takes -/
theorem c_wants {a : Nat} : x7_wantsSpot a s = some (if a = mR s 0 16 ∨ a = mR s 0 17 then 1 else 0) := by
  unfold x7_wantsSpot
  by_cases e : a = mR s 0 16
  · rw [if_pos e, if_pos (Or.inl e)]
  · rw [if_neg e]
    by_cases e' : a = mR s 0 17
    · rw [if_neg (fun z => z e'), if_pos (Or.inr e')]
    · rw [if_pos e', if_neg (fun z => z.elim e e')]
end Read24
