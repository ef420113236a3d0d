/-! ===== the start: the memory ===== -/
section GStart4
/-- which of n constants lies at a -/
def ix (f : Nat → Nat) (n a : Nat) : Option Nat := (List.range n).find? (fun k => f k + 1 == a)
theorem ix_some {f : Nat → Nat} {n a k : Nat} (h : ix f n a = some k) : k < n ∧ a = f k + 1 := by
  have h1 := List.find?_some h
  have h2 := List.mem_of_find?_eq_some h
  exact ⟨List.mem_range.mp h2, (beq_iff_eq.mp h1).symm⟩
theorem ix_none {f : Nat → Nat} {n a : Nat} (h : ix f n a = none) (k : Nat) (hk : k < n) : a ≠ f k + 1 := by
  have h1 := List.find?_eq_none.mp h k (List.mem_range.mpr hk)
  intro e
  exact h1 (beq_iff_eq.mpr e.symm)
/-- the tag and the number of what lies at a -/
def kd (st : Nat → Nat) (a : Nat) : Nat × Nat :=
  match ix (fun i => st (100 + i)) 34 a with
  | some i => (90, i)
  | none => match ix st 18 a with
    | some k => (91, k)
    | none => match ix (fun k => st (20 + k)) 12 a with
      | some k => (92, k)
      | none => if a = st 40 + 1 then (93, 0) else if a = st 50 + 1 then (94, 0) else (0, 0)
theorem kd_spec (st : Nat → Nat) (a : Nat) : ((kd st a).1 = 90 ∧ (kd st a).2 < 34 ∧ a = st (100 + (kd st a).2) + 1) ∨ ((kd st a).1 = 91 ∧ (kd st a).2 < 18 ∧ a = st (kd st a).2 + 1) ∨ ((kd st a).1 = 92 ∧ (kd st a).2 < 12 ∧ a = st (20 + (kd st a).2) + 1) ∨ ((kd st a).1 = 93 ∧ a = st 40 + 1) ∨ ((kd st a).1 = 94 ∧ a = st 50 + 1) ∨ (kd st a).1 = 0 := by
  unfold kd
  cases h1 : ix (fun i => st (100 + i)) 34 a with
  | some i => exact Or.inl ⟨rfl, ix_some h1⟩
  | none =>
    cases h2 : ix st 18 a with
    | some k => exact Or.inr (Or.inl ⟨rfl, ix_some h2⟩)
    | none =>
      cases h3 : ix (fun k => st (20 + k)) 12 a with
      | some k => exact Or.inr (Or.inr (Or.inl ⟨rfl, ix_some h3⟩))
      | none =>
        dsimp only
        by_cases h4 : a = st 40 + 1
        · rw [if_pos h4]; exact Or.inr (Or.inr (Or.inr (Or.inl ⟨rfl, h4⟩)))
        · rw [if_neg h4]
          by_cases h5 : a = st 50 + 1
          · rw [if_pos h5]; exact Or.inr (Or.inr (Or.inr (Or.inr (Or.inl ⟨rfl, h5⟩))))
          · rw [if_neg h5]; exact Or.inr (Or.inr (Or.inr (Or.inr (Or.inr rfl))))
def i0 (st : Nat → Nat) (sc : Nat → Int) (a j : Nat) : Int :=
  if (kd st a).1 = 90 then (gtx.getD (kd st a).2 []).getD j 0 else if (kd st a).1 = 91 then (gnm.getD (kd st a).2 []).getD j 0 else if (kd st a).1 = 92 then (gsg.getD (kd st a).2 []).getD j 0 else if (kd st a).1 = 94 then sc j else 0
def r0 (st : Nat → Nat) (a j : Nat) : Nat :=
  if a = 0 then st j + 1 else if (kd st a).1 = 91 then st (100 + ((gnm.getD (kd st a).2 []).getD 1 0).toNat) + 1 else if (kd st a).1 = 92 then st (100 + ((gsg.getD (kd st a).2 []).getD 1 0).toNat) + 1 else if (kd st a).1 = 93 then st j + 1 else 0
def n0 (st : Nat → Nat) (a : Nat) : Nat := if (kd st a).1 = 90 then (gtx.getD (kd st a).2 []).length else if (kd st a).1 = 93 then 18 else if (kd st a).1 = 94 then st 51 else 0
def mem0 (st : Nat → Nat) (sc : Nat → Int) (z : Nat) : gMem :=
  ((fun a j => Int32.ofInt (i0 st sc a j)), ((fun _ _ => 0), ((fun a j => r0 st a j), ((fun a => (kd st a).1), ((fun a => n0 st a), (z, 0))))))
theorem getD_rng {l : List (List Int)} (h : ∀ x ∈ l, ∀ y ∈ x, g32 y) (i j : Nat) : g32 ((l.getD i []).getD j 0) := by
  rw [List.getD_eq_getElem?_getD, List.getD_eq_getElem?_getD]
  cases hx : l[i]? with
  | none => simp only [Option.getD_none, List.getElem?_nil]; decide
  | some x =>
    show g32 ((x[j]?).getD 0)
    cases hy : x[j]? with
    | none => show g32 0; decide
    | some y => exact h x (List.mem_of_getElem? hx) y (List.mem_of_getElem? hy)
theorem i0_rng {st : Nat → Nat} {sc : Nat → Int} (hsc : ∀ j, g32 (sc j)) (a j : Nat) : g32 (i0 st sc a j) := by
  unfold i0
  split
  · exact getD_rng (by decide) _ _
  · split
    · exact getD_rng (by decide) _ _
    · split
      · exact getD_rng (by decide) _ _
      · split
        · exact hsc j
        · decide
theorem mem0_I {st : Nat → Nat} {sc : Nat → Int} {z : Nat} (hsc : ∀ j, g32 (sc j)) (a j : Nat) : mI (mem0 st sc z) a j = i0 st sc a j := g32_of (i0_rng hsc a j)
theorem st_sim {D : va_G} {cA : Nat → ClassId} {H : Heap} {st : Nat → Nat} {sc : Nat → Int} (hsc : ∀ j, g32 (sc j)) (hS : ∀ i, i < 34 → st (100 + i) < H.size) (hN : ∀ k, k < 18 → st k < H.size) (hG : ∀ k, k < 12 → st (20 + k) < H.size) (hV : st 40 < H.size) (hb : st 50 < H.size) (hL : st 51 ≤ 448) : gSim (D, (cA, (H.size, (st, sc)))) (mem0 st sc (H.size + 1)) H := by
  have key : ∀ a, (kd st a).1 ≠ 0 → a ≠ 0 ∧ a - 1 < H.size ∧ 90 ≤ (kd st a).1 ∧ (kd st a).1 < 95 := by
    intro a ha
    rcases kd_spec st a with ⟨h1, h2, h3⟩ | ⟨h1, h2, h3⟩ | ⟨h1, h2, h3⟩ | ⟨h1, h3⟩ | ⟨h1, h3⟩ | h1
    · have := hS _ h2; omega
    · have := hN _ h2; omega
    · have := hG _ h2; omega
    · omega
    · omega
    · exact absurd h1 ha
  have hT : ∀ a, mT (mem0 st sc (H.size + 1)) a = (kd st a).1 := fun a => rfl
  refine ⟨rfl, fun a ha => ?_, fun a => ?_, by omega, fun a ha hO => ?_, ⟨fun j => ?_, fun a ha => ?_⟩, fun a i ha => ?_⟩
  · have k := key a ha
    refine ⟨⟨fun ci r h1 h2 => ?_, fun j h1 => ?_⟩, k.1, k.2.1⟩
    · rw [hT] at h1
      have : ci < 25 := (List.getElem?_eq_some_iff.mp h2).1
      omega
    · rw [hT] at h1; omega
  · show n0 st a < _
    unfold n0
    have := gtx_len (kd st a).2
    split
    · omega
    · split
      · decide
      · split <;> omega
  · have k := key a ha
    exact absurd ⟨k.2.2.1, by rw [hT]; omega⟩ hO
  · show r0 st 0 j = st j + 1
    unfold r0
    rw [if_pos rfl]
  · have ha0 : (kd st a).1 ≠ 0 := by have := ha.1; rw [hT] at this; omega
    have k := key a ha0
    refine ⟨by show a ≤ H.size; omega, fun h => ?_, fun h => ?_, fun h => ?_, fun h => ?_, fun h => ?_⟩
    all_goals rw [hT] at h
    · rcases kd_spec st a with ⟨h1, h2, h3⟩ | ⟨h1, h2, h3⟩ | ⟨h1, h2, h3⟩ | ⟨h1, h3⟩ | ⟨h1, h3⟩ | h1 <;> try omega
      refine ⟨_, h2, h3, ?_, fun j => ?_⟩
      · show n0 st a = _; unfold n0; rw [if_pos h1]
      · rw [mem0_I hsc]; unfold i0; rw [if_pos h1]
    · rcases kd_spec st a with ⟨h1, h2, h3⟩ | ⟨h1, h2, h3⟩ | ⟨h1, h2, h3⟩ | ⟨h1, h3⟩ | ⟨h1, h3⟩ | h1 <;> try omega
      refine ⟨_, h2, h3, fun j _ => ?_, ?_⟩
      · rw [mem0_I hsc]; unfold i0; rw [if_neg (by omega), if_pos h1]
      · show r0 st a 1 = _; unfold r0; rw [if_neg k.1, if_pos h1]
    · rcases kd_spec st a with ⟨h1, h2, h3⟩ | ⟨h1, h2, h3⟩ | ⟨h1, h2, h3⟩ | ⟨h1, h3⟩ | ⟨h1, h3⟩ | h1 <;> try omega
      refine ⟨_, h2, h3, fun j _ => ?_, ?_⟩
      · rw [mem0_I hsc]; unfold i0; rw [if_neg (by omega), if_neg (by omega), if_pos h1]
      · show r0 st a 1 = _; unfold r0; rw [if_neg k.1, if_neg (by omega), if_pos h1]
    · rcases kd_spec st a with ⟨h1, h2, h3⟩ | ⟨h1, h2, h3⟩ | ⟨h1, h2, h3⟩ | ⟨h1, h3⟩ | ⟨h1, h3⟩ | h1 <;> try omega
      refine ⟨h3, ?_, fun j _ => ?_⟩
      · show n0 st a = _; unfold n0; rw [if_neg (by omega), if_pos h1]
      · show r0 st a j = _; unfold r0; rw [if_neg k.1, if_neg (by omega), if_neg (by omega), if_pos h1]
    · rcases kd_spec st a with ⟨h1, h2, h3⟩ | ⟨h1, h2, h3⟩ | ⟨h1, h2, h3⟩ | ⟨h1, h3⟩ | ⟨h1, h3⟩ | h1 <;> try omega
      refine ⟨h3, ?_, fun j _ => ?_⟩
      · show n0 st a = _; unfold n0; rw [if_neg (by omega), if_neg (by omega), if_pos h1]
      · rw [mem0_I hsc]; unfold i0; rw [if_neg (by omega), if_neg (by omega), if_neg (by omega), if_pos h1]
  · have k := key a (by rw [hT] at ha; omega)
    rw [hT] at ha
    omega
end GStart4
