/-! ===== PHASE 2: the state: the class's sheets, each with its owner ===== -/
section State1
variable {x h : Nat} {σ σ' s : gMem} {W : Nat → Prop} {own own' rt rt' : Nat → Nat} {va va' : Nat → Prop} {Gs Gs' : Nat → Sh} {S S' : Sh} {a A i k : Nat}
/-- where sheets and what belongs to versions lie -/
def OutS (x h a : Nat) : Prop := (x + 1440 < a ∧ a < h) ∨ h + 57 < a
theorem OutS.fa (o : OutS x h a) (hh : h = x + 1471) : Fa x a := by unfold OutS at o; unfold Fa; omega
/-- whose the cells of a sheet are -/
def OwS (own : Nat → Nat) (σ : gMem) (a n : Nat) : Prop :=
  own a = a ∧ own (mR σ a 2) = a ∧ (∀ r, r < n → own (mR σ (mR σ a 2) r) = a) ∧ ∀ r r', r < n → r' < n → mR σ (mR σ a 2) r = mR σ (mR σ a 2) r' → r = r'
/-- sheets at their places, none of them shares with another one -/
def SC (x h : Nat) (own rt : Nat → Nat) (va : Nat → Prop) (Gs : Nat → Sh) (σ : gMem) : Prop :=
  (∀ i, va i → ShC σ (rt i) (Gs i) ∧ OwS own σ (rt i) (Gs i).1.1.length ∧ ∀ b, ShA σ (rt i) (Gs i).1.1.length b → OutS x h b) ∧ ∀ i j, va i → va j → rt i = rt j → i = j
theorem ShA.kp (K : Kz W σ σ') (g : gOk σ) (c : ShC σ a S) (wa : ¬ W a) (wc : ¬ W (mR σ a 2)) {b : Nat} : ShA σ' a S.1.1.length b ↔ ShA σ a S.1.1.length b := by
  have ta : mT σ a ≠ 0 := by rw [c.1.1]; decide
  have tc : mT σ (mR σ a 2) ≠ 0 := by rw [c.2.1]; decide
  unfold ShA
  rw [K.rR g ta wa, K.rR g ta wa, K.rR g ta wa]
  have : ∀ r, mR σ' (mR σ a 2) r = mR σ (mR σ a 2) r := fun r => K.rR g tc wc r
  simp only [this]
theorem OwS.kp {n : Nat} (K : Kz W σ σ') (g : gOk σ) (c : ShC σ a S) (o : OwS own σ a n) (wa : ¬ W a) (wc : ¬ W (mR σ a 2)) : OwS own σ' a n := by
  have ta : mT σ a ≠ 0 := by rw [c.1.1]; decide
  have tc : mT σ (mR σ a 2) ≠ 0 := by rw [c.2.1]; decide
  unfold OwS at o ⊢
  rw [K.rR g ta wa]
  have : ∀ r, mR σ' (mR σ a 2) r = mR σ (mR σ a 2) r := fun r => K.rR g tc wc r
  simp only [this]
  exact o
/-- what is written is none of the sheets' -/
theorem SC.kp (K : Kz W σ σ') (g : gOk σ) (z : 0 < mZ σ) (n : WN σ W) (o : ∀ a, W a → ¬ OutS x h a) (c : SC x h own rt va Gs σ) : SC x h own rt va Gs σ' := by
  refine ⟨fun i hi => ?_, c.2⟩
  obtain ⟨c1, c2, c3⟩ := c.1 i hi
  have wn : ∀ b, ShA σ (rt i) (Gs i).1.1.length b → ¬ W b := fun b hb w => o b w (c3 b hb)
  have wa := wn _ (Or.inl rfl)
  have wc := wn _ (Or.inr (Or.inr (Or.inr (Or.inl rfl))))
  exact ⟨c1.kp K g z n wn, c2.kp K g c1 wa wc, fun b hb => c3 b ((ShA.kp K g c1 wa wc).mp hb)⟩
theorem SC.cg (e1 : ∀ i, va' i → va i) (e2 : ∀ i, va' i → rt' i = rt i) (e3 : ∀ i, va' i → Gs' i = Gs i) (c : SC x h own rt va Gs σ) : SC x h own rt' va' Gs' σ := by
  refine ⟨fun i hi => ?_, fun i j hi hj e => c.2 i j (e1 i hi) (e1 j hj) (by rw [← e2 i hi, ← e2 j hj]; exact e)⟩
  rw [e2 i hi, e3 i hi]; exact c.1 i (e1 i hi)
/-- the same sheets at other places -/
theorem SC.re {p : Nat → Nat} (e1 : ∀ i, va' i → va (p i)) (ep : ∀ i j, va' i → va' j → p i = p j → i = j) (e2 : ∀ i, va' i → rt' i = rt (p i)) (e3 : ∀ i, va' i → Gs' i = Gs (p i)) (c : SC x h own rt va Gs σ) : SC x h own rt' va' Gs' σ := by
  refine ⟨fun i hi => ?_, fun i j hi hj e => ep i j hi hj (c.2 _ _ (e1 i hi) (e1 j hj) (by rw [← e2 i hi, ← e2 j hj]; exact e))⟩
  rw [e2 i hi, e3 i hi]; exact c.1 _ (e1 i hi)
/-- the cells of a sheet that may be written -/
def ShW (σ : gMem) (a n b : Nat) : Prop := b = a ∨ b = mR σ a 2 ∨ ∃ r, r < n ∧ b = mR σ (mR σ a 2) r
theorem OwS.of {n b : Nat} (o : OwS own σ a n) (w : ShW σ a n b) : own b = a := by
  rcases w with rfl | rfl | ⟨r, hr, rfl⟩
  · exact o.1
  · exact o.2.1
  · exact o.2.2.1 r hr
theorem ShW.sha {n b : Nat} (w : ShW σ a n b) : ShA σ a n b := by
  rcases w with w | w | w
  · exact Or.inl w
  · exact Or.inr (Or.inr (Or.inr (Or.inl w)))
  · exact Or.inr (Or.inr (Or.inr (Or.inr w)))
theorem ShW.tag {b : Nat} (c : ShC σ a S) (w : ShW σ a S.1.1.length b) : mT σ b = 8 ∨ mT σ b = 111 ∨ mT σ b = 110 := by
  rcases w with rfl | rfl | ⟨r, hr, rfl⟩
  · exact Or.inl c.1.1
  · exact Or.inr (Or.inl c.2.1)
  · exact Or.inr (Or.inr (c.2.2.2 r hr).1)
theorem ShW.wn (c : ShC σ a S) (hw : ∀ b, W b → ShW σ a S.1.1.length b) (z0 : mT σ 0 = 0) : WN σ W := by
  refine ⟨fun w => ?_, fun b w => ?_⟩
  · have := ShW.tag c (hw 0 w); omega
  · have := ShW.tag c (hw b w); omega
/-- one sheet is changed, in cells of its own -/
theorem SC.set (K : Kz W σ σ') (g : gOk σ) (z : 0 < mZ σ) (z0 : mT σ 0 = 0) (hi : va i) (hw : ∀ b, W b → ShW σ (rt i) (Gs i).1.1.length b) (own' : Nat → Nat) (eo : ∀ b, b < mZ σ → own' b = own b) (c : SC x h own rt va Gs σ) (n1 : ShC σ' (rt i) S') (n2 : OwS own' σ' (rt i) S'.1.1.length) (n3 : ∀ b, ShA σ' (rt i) S'.1.1.length b → OutS x h b) : SC x h own' rt va (fun j => if j = i then S' else Gs j) σ' := by
  refine ⟨fun j hj => ?_, c.2⟩
  dsimp only
  by_cases e : j = i
  · subst e
    rw [if_pos rfl]; exact ⟨n1, n2, n3⟩
  · rw [if_neg e]
    obtain ⟨c1, c2, c3⟩ := c.1 j hj
    obtain ⟨d1, d2, d3⟩ := c.1 i hi
    have wn : ∀ b, ShA σ (rt j) (Gs j).1.1.length b → ¬ W b := fun b hb w => by
      have t := ShW.tag d1 (hw b w)
      have o := d2.of (hw b w)
      have o2 : own b = rt j := by
        rcases hb with rfl | rfl | rfl | rfl | ⟨r, hr, rfl⟩
        · exact c2.1
        · have := c1.1.2.1.1; omega
        · have := c1.1.2.2.1.1; omega
        · exact c2.2.1
        · exact c2.2.2.1 r hr
      exact e (c.2 j i hj hi (by rw [← o2, o]))
    have wa := wn _ (Or.inl rfl)
    have wc := wn _ (Or.inr (Or.inr (Or.inr (Or.inl rfl))))
    have lt : ∀ b, ShW σ (rt j) (Gs j).1.1.length b → b < mZ σ := fun b hb => gOk_lt g (by have := ShW.tag c1 hb; omega)
    have o' : OwS own' σ (rt j) (Gs j).1.1.length := ⟨by rw [eo _ (lt _ (Or.inl rfl))]; exact c2.1, by rw [eo _ (lt _ (Or.inr (Or.inl rfl)))]; exact c2.2.1, fun r hr => by rw [eo _ (lt _ (Or.inr (Or.inr ⟨r, hr, rfl⟩)))]; exact c2.2.2.1 r hr, c2.2.2.2⟩
    exact ⟨c1.kp K g z (ShW.wn d1 hw z0) wn, o'.kp K g c1 wa wc, fun b hb => c3 b ((ShA.kp K g c1 wa wc).mp hb)⟩
/-- a new sheet comes to a place that was free -/
theorem SC.new (K : Kz (fun _ => False) σ σ') (g : gOk σ) (z : 0 < mZ σ) (own' : Nat → Nat) (eo : ∀ b, b < mZ σ → own' b = own b) (ge : mZ σ ≤ A) (c : SC x h own rt va Gs σ) (n1 : ShC σ' A S') (n2 : OwS own' σ' A S'.1.1.length) (n3 : ∀ b, ShA σ' A S'.1.1.length b → OutS x h b) : SC x h own' (fun j => if j = k then A else rt j) (fun j => j = k ∨ va j) (fun j => if j = k then S' else Gs j) σ' := by
  have WNF : WN σ (fun _ => False) := ⟨fun f => f, fun b f => f.elim⟩
  have rl : ∀ j, va j → rt j < mZ σ := fun j hj => gOk_lt g (by rw [(c.1 j hj).1.1.1]; decide)
  refine ⟨fun j hj => ?_, fun i j hi hj e => ?_⟩
  · dsimp only
    by_cases e : j = k
    · rw [if_pos e, if_pos e]; exact ⟨n1, n2, n3⟩
    · have hj' : va j := hj.resolve_left e
      rw [if_neg e, if_neg e]
      obtain ⟨c1, c2, c3⟩ := c.1 j hj'
      have lt : ∀ b, ShW σ (rt j) (Gs j).1.1.length b → b < mZ σ := fun b hb => gOk_lt g (by have := ShW.tag c1 hb; omega)
      have o' : OwS own' σ (rt j) (Gs j).1.1.length := ⟨by rw [eo _ (lt _ (Or.inl rfl))]; exact c2.1, by rw [eo _ (lt _ (Or.inr (Or.inl rfl)))]; exact c2.2.1, fun r hr => by rw [eo _ (lt _ (Or.inr (Or.inr ⟨r, hr, rfl⟩)))]; exact c2.2.2.1 r hr, c2.2.2.2⟩
      exact ⟨c1.kp K g z WNF (fun b _ f => f), o'.kp K g c1 (fun f => f) (fun f => f), fun b hb => c3 b ((ShA.kp K g c1 (fun f => f) (fun f => f)).mp hb)⟩
  · dsimp only at e
    by_cases ei : i = k
    · by_cases ej : j = k
      · omega
      · rw [if_pos ei, if_neg ej] at e
        have := rl j (hj.resolve_left ej); omega
    · by_cases ej : j = k
      · rw [if_neg ei, if_pos ej] at e
        have := rl i (hi.resolve_left ei); omega
      · rw [if_neg ei, if_neg ej] at e
        exact c.2 i j (hi.resolve_left ei) (hj.resolve_left ej) e
end State1
