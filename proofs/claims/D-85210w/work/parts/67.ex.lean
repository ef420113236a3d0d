/-! ===== PHASE 2: what may change between two memories ===== -/
section ExFrame
/-- ints and longs alone may differ, and those at P alone -/
def Ex (P : Nat → Nat → Prop) (σ σ' : gMem) : Prop := σ'.2.2 = σ.2.2 ∧ ∀ a k, ¬ P a k → σ'.1 a k = σ.1 a k ∧ σ'.2.1 a k = σ.2.1 a k
variable {P Q : Nat → Nat → Prop} {σ σ' σ'' s : gMem}
theorem Ex.rf : Ex P σ σ := ⟨rfl, fun _ _ _ => ⟨rfl, rfl⟩⟩
theorem Ex.tr (x : Ex P σ σ') (y : Ex P σ' σ'') : Ex P σ σ'' := ⟨y.1.trans x.1, fun a k h => ⟨(y.2 a k h).1.trans (x.2 a k h).1, (y.2 a k h).2.trans (x.2 a k h).2⟩⟩
theorem Ex.mono (x : Ex P σ σ') (h : ∀ a k, P a k → Q a k) : Ex Q σ σ' := ⟨x.1, fun a k n => x.2 a k (fun p => n (h a k p))⟩
theorem Ex.rI (x : Ex P σ σ') {a k : Nat} (n : ¬ P a k) : mI σ' a k = mI σ a k := by show (σ'.1 a k).toInt = (σ.1 a k).toInt; rw [(x.2 a k n).1]
theorem Ex.rL (x : Ex P σ σ') {a k : Nat} (n : ¬ P a k) : mL σ' a k = mL σ a k := by show (σ'.2.1 a k).toInt = (σ.2.1 a k).toInt; rw [(x.2 a k n).2]
theorem Ex.rR (x : Ex P σ σ') : mR σ' = mR σ := by show σ'.2.2.1 = σ.2.2.1; rw [x.1]
theorem Ex.rT (x : Ex P σ σ') : mT σ' = mT σ := by show σ'.2.2.2.1 = σ.2.2.2.1; rw [x.1]
theorem Ex.rN (x : Ex P σ σ') : mN σ' = mN σ := by show σ'.2.2.2.2.1 = σ.2.2.2.2.1; rw [x.1]
theorem Ex.rZ (x : Ex P σ σ') : mZ σ' = mZ σ := by show σ'.2.2.2.2.2.1 = σ.2.2.2.2.2.1; rw [x.1]
theorem Ex.rS (x : Ex P σ σ') : mS σ' = mS σ := by show σ'.2.2.2.2.2.2 = σ.2.2.2.2.2.2; rw [x.1]
theorem Ex.I {a i : Nat} {v : Int} (x : Ex P σ s) (g : P a i) : Ex P σ (wI s a i v) := by
  refine ⟨x.1, fun b j n => ⟨?_, (x.2 b j n).2⟩⟩
  show gu2 s.1 a i (Int32.ofInt v) b j = _
  unfold gu2
  rw [if_neg (fun e => n (by rw [e.1, e.2]; exact g))]; exact (x.2 b j n).1
theorem Ex.L {a i : Nat} {v : Int} (x : Ex P σ s) (g : P a i) : Ex P σ (wL s a i v) := by
  refine ⟨x.1, fun b j n => ⟨(x.2 b j n).1, ?_⟩⟩
  show gu2 s.2.1 a i (Int64.ofInt v) b j = _
  unfold gu2
  rw [if_neg (fun e => n (by rw [e.1, e.2]; exact g))]; exact (x.2 b j n).2
theorem Ex.CI {a sp b dp n : Nat} (x : Ex P σ s) (g : ∀ j, dp ≤ j → j < dp + n → P b j) : Ex P σ (wCI s a sp b dp n) := by
  refine ⟨x.1, fun q j h => ⟨?_, (x.2 q j h).2⟩⟩
  show (if q = b ∧ dp ≤ j ∧ j < dp + n then s.1 a (sp + (j - dp)) else s.1 q j) = _
  rw [if_neg (fun e => h (by rw [e.1]; exact g j e.2.1 e.2.2))]; exact (x.2 q j h).1
theorem FT.ex {h : Nat} {fs os : List Nat} (x : FT h fs os σ σ') : Ex (fun a k => (a = h ∧ k ∈ fs) ∨ ∃ o, o ∈ os ∧ a = h + o) σ σ' :=
  ⟨x.1, fun a k n => x.2 a k (fun e => n (Or.inl e)) (fun o ho e => n (Or.inr ⟨o, ho, e⟩))⟩
/-- a copy, its first one ahead -/
theorem wCI_front {σ : gMem} {a sp b dp n : Nat} (h : ¬ (a = b ∧ sp < dp ∧ dp < sp + (n + 1))) : wCI (wI σ b dp (mI σ a sp)) a (sp + 1) b (dp + 1) n = wCI σ a sp b dp (n + 1) := by
  unfold wI
  rw [mI_of]
  unfold wCI gu2
  dsimp only
  congr 1
  funext q j
  by_cases h1 : q = b ∧ dp + 1 ≤ j ∧ j < dp + 1 + n
  · rw [if_pos h1, if_neg (fun e => h ⟨e.1, by omega, by omega⟩), if_pos ⟨h1.1, by omega, by omega⟩]
    have e : sp + 1 + (j - (dp + 1)) = sp + (j - dp) := by omega
    rw [e]
  · rw [if_neg h1]
    by_cases h2 : q = b ∧ j = dp
    · have e : sp + (j - dp) = sp := by omega
      rw [if_pos h2, if_pos ⟨h2.1, by omega, by omega⟩, e]
    · rw [if_neg h2, if_neg (fun h3 => h2 ⟨h3.1, by
        by_cases hj : j = dp
        · exact hj
        · exact absurd ⟨h3.1, by omega, by omega⟩ h1⟩)]
theorem tn (n : Nat) : ((n : Int)).toNat = n := Int.toNat_natCast n
theorem ifp {α : Type} {c : Prop} [Decidable c] {x y z : α} (h : c) (k : x = z) : (if c then x else y) = z := by rw [if_pos h]; exact k
theorem ifn {α : Type} {c : Prop} [Decidable c] {x y z : α} (h : ¬ c) (k : y = z) : (if c then x else y) = z := by rw [if_neg h]; exact k
/-- an answer is there, and it fulfils -/
def Ev {α : Type} (x : Option α) (Φ : α → Prop) : Prop := ∃ r, x = some r ∧ Φ r
variable {α β : Type} {Φ : α → Prop} {Ψ : β → Prop}
theorem Ev.r {a : α} (h : Φ a) : Ev (some a) Φ := ⟨a, rfl, h⟩
theorem Ev.g {c : Prop} [Decidable c] {x y : Option α} (h : c) (k : Ev x Φ) : Ev (if c then x else y) Φ := by rw [if_pos h]; exact k
theorem Ev.f {c : Prop} [Decidable c] {x y : Option α} (h : ¬ c) (k : Ev y Φ) : Ev (if c then x else y) Φ := by rw [if_neg h]; exact k
theorem Ev.i {c : Prop} [Decidable c] {x y : Option α} (h : c → Ev x Φ) (k : ¬ c → Ev y Φ) : Ev (if c then x else y) Φ := by
  by_cases hc : c
  · rw [if_pos hc]; exact h hc
  · rw [if_neg hc]; exact k hc
theorem Ev.c {x : Option β} {f : β → Option α} (h : Ev x Ψ) (k : ∀ r, x = some r → Ψ r → Ev (f r) Φ) : Ev (x.bind f) Φ := by
  obtain ⟨r, e, p⟩ := h
  rw [e]; exact k r e p
theorem Ev.e {x : Option β} {f : β → Option α} {r : β} (e : x = some r) (k : Ev (f r) Φ) : Ev (x.bind f) Φ := by
  rw [e]; exact k
theorem Ev.l {m : gMem} {f : gMem → Option α} (k : Ev (f m) Φ) : Ev (gLet m f) Φ := k
theorem Ev.m {x : Option α} {Φ' : α → Prop} (h : Ev x Φ) (k : ∀ r, Φ r → Φ' r) : Ev x Φ' := by
  obtain ⟨r, e, p⟩ := h
  exact ⟨r, e, k r p⟩
theorem Fo.ev {x : Option α} {Θ : α → Prop} (f : Fo Θ x) (h : Ev x Φ) : Ev x (fun r => Φ r ∧ Θ r) := by
  obtain ⟨r, e, p⟩ := h
  exact ⟨r, e, p, f r e⟩
theorem Ev.and {x : Option α} {Φ' : α → Prop} (h : Ev x Φ) (k : Ev x Φ') : Ev x (fun r => Φ r ∧ Φ' r) := by
  obtain ⟨r, e, p⟩ := h
  obtain ⟨r', e', p'⟩ := k
  cases Option.some.inj (e.symm.trans e')
  exact ⟨r, e, p, p'⟩
end ExFrame
