/-! ===== PHASE 2, the base: what a function keeps ===== -/
section FrameBase
/-- what an answer, if there is one, fulfils -/
def Fo {α : Type} (Φ : α → Prop) (x : Option α) : Prop := ∀ r, x = some r → Φ r
theorem Fo.none {α : Type} {Φ : α → Prop} : Fo Φ none := fun _ h => nomatch h
theorem Fo.some {α : Type} {Φ : α → Prop} {a : α} (h : Φ a) : Fo Φ (some a) := fun _ e => Option.some.inj e ▸ h
theorem Fo.ite {α : Type} {Φ : α → Prop} {c : Prop} [Decidable c] {x y : Option α} (h : c → Fo Φ x) (k : ¬ c → Fo Φ y) : Fo Φ (if c then x else y) := by
  by_cases hc : c
  · rw [if_pos hc]; exact h hc
  · rw [if_neg hc]; exact k hc
theorem Fo.bind {α β : Type} {Ψ : α → Prop} {Φ : β → Prop} {x : Option α} {f : α → Option β} (h : Fo Ψ x) (k : ∀ y, Ψ y → Fo Φ (f y)) : Fo Φ (x.bind f) := by
  cases x with
  | none => exact Fo.none
  | some a => exact k a (h a rfl)
theorem Fo.pure {α β : Type} {Φ : β → Prop} {x : Option α} {f : α → Option β} (k : ∀ y, Fo Φ (f y)) : Fo Φ (x.bind f) := by
  cases x with
  | none => exact Fo.none
  | some a => exact k a
/-- two memories are alike at a cell -/
def Sm (σ σ' : gMem) (a : Nat) : Prop := ∀ k, σ'.1 a k = σ.1 a k ∧ σ'.2.1 a k = σ.2.1 a k
/-- the twin at h may have changed its fields fs and its arrays os, all else is as it was -/
def FT (h : Nat) (fs os : List Nat) (σ σ' : gMem) : Prop :=
  σ'.2.2 = σ.2.2 ∧ ∀ a k, ¬ (a = h ∧ k ∈ fs) → (∀ o, o ∈ os → a ≠ h + o) → σ'.1 a k = σ.1 a k ∧ σ'.2.1 a k = σ.2.1 a k
theorem FT.rf {h : Nat} {fs os : List Nat} {σ : gMem} : FT h fs os σ σ := ⟨rfl, fun _ _ _ _ => ⟨rfl, rfl⟩⟩
theorem FT.tr {h : Nat} {fs os : List Nat} {a b c : gMem} (x : FT h fs os a b) (y : FT h fs os b c) : FT h fs os a c :=
  ⟨y.1.trans x.1, fun q k h1 h2 => ⟨(y.2 q k h1 h2).1.trans (x.2 q k h1 h2).1, (y.2 q k h1 h2).2.trans (x.2 q k h1 h2).2⟩⟩
def FAt (h : Nat) (os : List Nat) (t : Nat) : Prop := ∃ o, o ∈ os ∧ t = h + o
variable {h : Nat} {fs os : List Nat} {σ0 s : gMem} {α : Type} {Φ : α → Prop} {K : gMem → Option α}
theorem FT.letIa {t i : Nat} {v : Int} (hs : FT h fs os σ0 s) (g : FAt h os t) (k : ∀ s', FT h fs os σ0 s' → Fo Φ (K s')) : Fo Φ (gLet (wI s t i v) K) := by
  refine k _ ⟨hs.1, fun a j h1 h2 => ?_⟩
  obtain ⟨o, ho, rfl⟩ := g
  have e : ¬ (a = h + o ∧ j = i) := fun q => h2 o ho q.1
  refine ⟨?_, (hs.2 a j h1 h2).2⟩
  show gu2 s.1 (h + o) i (Int32.ofInt v) a j = _
  unfold gu2
  rw [if_neg e]; exact (hs.2 a j h1 h2).1
theorem FT.letLa {t i : Nat} {v : Int} (hs : FT h fs os σ0 s) (g : FAt h os t) (k : ∀ s', FT h fs os σ0 s' → Fo Φ (K s')) : Fo Φ (gLet (wL s t i v) K) := by
  refine k _ ⟨hs.1, fun a j h1 h2 => ?_⟩
  obtain ⟨o, ho, rfl⟩ := g
  have e : ¬ (a = h + o ∧ j = i) := fun q => h2 o ho q.1
  refine ⟨(hs.2 a j h1 h2).1, ?_⟩
  show gu2 s.2.1 (h + o) i (Int64.ofInt v) a j = _
  unfold gu2
  rw [if_neg e]; exact (hs.2 a j h1 h2).2
theorem FT.letI {o i : Nat} {v : Int} (hs : FT h fs os σ0 s) (g : o ∈ os) (k : ∀ s', FT h fs os σ0 s' → Fo Φ (K s')) : Fo Φ (gLet (wI s (h + o) i v) K) := FT.letIa hs ⟨o, g, rfl⟩ k
theorem FT.letL {o i : Nat} {v : Int} (hs : FT h fs os σ0 s) (g : o ∈ os) (k : ∀ s', FT h fs os σ0 s' → Fo Φ (K s')) : Fo Φ (gLet (wL s (h + o) i v) K) := FT.letLa hs ⟨o, g, rfl⟩ k
theorem FT.letIf {i : Nat} {v : Int} (hs : FT h fs os σ0 s) (g : i ∈ fs) (k : ∀ s', FT h fs os σ0 s' → Fo Φ (K s')) : Fo Φ (gLet (wI s h i v) K) := by
  refine k _ ⟨hs.1, fun a j h1 h2 => ?_⟩
  have e : ¬ (a = h ∧ j = i) := fun q => h1 ⟨q.1, q.2 ▸ g⟩
  refine ⟨?_, (hs.2 a j h1 h2).2⟩
  show gu2 s.1 h i (Int32.ofInt v) a j = _
  unfold gu2
  rw [if_neg e]; exact (hs.2 a j h1 h2).1
theorem FT.letLf {i : Nat} {v : Int} (hs : FT h fs os σ0 s) (g : i ∈ fs) (k : ∀ s', FT h fs os σ0 s' → Fo Φ (K s')) : Fo Φ (gLet (wL s h i v) K) := by
  refine k _ ⟨hs.1, fun a j h1 h2 => ?_⟩
  have e : ¬ (a = h ∧ j = i) := fun q => h1 ⟨q.1, q.2 ▸ g⟩
  refine ⟨(hs.2 a j h1 h2).1, ?_⟩
  show gu2 s.2.1 h i (Int64.ofInt v) a j = _
  unfold gu2
  rw [if_neg e]; exact (hs.2 a j h1 h2).2
/-- an array of the twin that was not written -/
theorem FT.arr {σ σ' : gMem} (x : FT h fs os σ σ') (o : Nat) (h0 : 0 < o) (h1 : o ∉ os) (k : Nat) : mI σ' (h + o) k = mI σ (h + o) k ∧ mL σ' (h + o) k = mL σ (h + o) k := by
  have q := x.2 (h + o) k (fun q => by have := q.1; omega) (fun p hp e => h1 (Nat.add_left_cancel e ▸ hp))
  exact ⟨by unfold mI; rw [q.1], by unfold mL; rw [q.2]⟩
/-- a field of the twin that was not written -/
theorem FT.fld {σ σ' : gMem} (x : FT h fs os σ σ') (k : Nat) (h0 : 0 ∉ os) (h1 : k ∉ fs) : mI σ' h k = mI σ h k ∧ mL σ' h k = mL σ h k := by
  have q := x.2 h k (fun q => h1 q.2) (fun p hp e => h0 ((show p = 0 by omega) ▸ hp))
  exact ⟨by unfold mI; rw [q.1], by unfold mL; rw [q.2]⟩
/-- a cell outside of the twin -/
theorem FT.out {σ σ' : gMem} (x : FT h fs os σ σ') (a : Nat) (h1 : a ≠ h) (h2 : ∀ o, o ∈ os → a ≠ h + o) (k : Nat) : mI σ' a k = mI σ a k ∧ mL σ' a k = mL σ a k := by
  have q := x.2 a k (fun q => h1 q.1) h2
  exact ⟨by unfold mI; rw [q.1], by unfold mL; rw [q.2]⟩
theorem FT.eR {σ σ' : gMem} (x : FT h fs os σ σ') : mR σ' = mR σ := by funext a k; unfold mR; rw [x.1]
theorem FT.eT {σ σ' : gMem} (x : FT h fs os σ σ') : mT σ' = mT σ := by funext a; unfold mT; rw [x.1]
theorem FT.eN {σ σ' : gMem} (x : FT h fs os σ σ') : mN σ' = mN σ := by funext a; unfold mN; rw [x.1]
theorem FT.eZ {σ σ' : gMem} (x : FT h fs os σ σ') : mZ σ' = mZ σ := by unfold mZ; rw [x.1]
theorem FT.eS {σ σ' : gMem} (x : FT h fs os σ σ') : mS σ' = mS σ := by unfold mS; rw [x.1]
end FrameBase
