/-! ===== PHASE 2: lists out of rows of memory, places ===== -/
section Bas
theorem w32_i {x : Int} (h1 : -2147483648 ≤ x) (h2 : x ≤ 2147483647) : w32 x = x := w32_id ⟨h1, h2⟩
theorem w64_i {x : Int} (h1 : -9223372036854775808 ≤ x) (h2 : x ≤ 9223372036854775807) : w64 x = x := w64_id ⟨h1, h2⟩
theorem mI32 (σ : gMem) (a k : Nat) : w32 (mI σ a k) = mI σ a k := w32_id (mI_rng σ a k)
theorem mL64 (σ : gMem) (a k : Nat) : w64 (mL σ a k) = mL σ a k := w64_id (mL_rng σ a k)
/-- the first n of a row, as a list -/
def lst {α : Type} (n : Nat) (f : Nat → α) : List α := (List.range n).map f
theorem lst_len {α : Type} (n : Nat) (f : Nat → α) : (lst n f).length = n := by unfold lst; rw [List.length_map, List.length_range]
theorem lst_succ {α : Type} (n : Nat) (f : Nat → α) : lst (n + 1) f = lst n f ++ [f n] := by unfold lst; rw [List.range_succ, List.map_append]; rfl
theorem lst_zero {α : Type} (f : Nat → α) : lst 0 f = [] := rfl
theorem lst_congr {α : Type} {n : Nat} {f g : Nat → α} (h : ∀ i, i < n → f i = g i) : lst n f = lst n g := by
  unfold lst
  exact List.map_congr_left (fun i hi => h i (List.mem_range.mp hi))
theorem lst_get? {α : Type} {n : Nat} {f : Nat → α} {i : Nat} (h : i < n) : (lst n f)[i]? = some (f i) := by
  unfold lst
  rw [List.getElem?_map, List.getElem?_range h]; rfl
def gl (l : List Int) (i : Nat) : Int := l[i]?.getD 0
theorem gl_lst {n : Nat} {f : Nat → Int} {i : Nat} (h : i < n) : gl (lst n f) i = f i := by unfold gl; rw [lst_get? h]; rfl
theorem lst_gl (l : List Int) : lst l.length (gl l) = l := by
  apply List.ext_getElem?
  intro i
  by_cases h : i < l.length
  · rw [lst_get? h]; unfold gl; rw [List.getElem?_eq_getElem h]; rfl
  · rw [List.getElem?_eq_none (by rw [lst_len]; omega), List.getElem?_eq_none (by omega)]
theorem lst_eq_of {l : List Int} {n : Nat} {f : Nat → Int} (h1 : l.length = n) (h2 : ∀ i, i < n → f i = gl l i) : lst n f = l := by
  rw [lst_congr h2, ← h1]; exact lst_gl l
theorem gl_ext {l m : List Int} (h1 : l.length = m.length) (h2 : ∀ i, i < l.length → gl l i = gl m i) : l = m := by
  rw [← lst_gl l, ← lst_gl m, ← h1]; exact lst_congr h2
theorem gl_mem {l : List Int} {i : Nat} (h : i < l.length) : gl l i ∈ l := by
  unfold gl; rw [List.getElem?_eq_getElem h]; exact List.getElem_mem h
theorem mem_gl {l : List Int} {x : Int} (h : x ∈ l) : ∃ i, i < l.length ∧ gl l i = x := by
  obtain ⟨i, hi, e⟩ := List.getElem_of_mem h
  exact ⟨i, hi, by unfold gl; rw [List.getElem?_eq_getElem hi]; exact e⟩
theorem gl_inj {l : List Int} (hn : l.Nodup) {i j : Nat} (hi : i < l.length) (hj : j < l.length) (h : gl l i = gl l j) : i = j := by
  unfold gl at h
  rw [List.getElem?_eq_getElem hi, List.getElem?_eq_getElem hj] at h
  exact (List.getElem_inj hn).mp h
/-- where a number first stands in a row, from i on, of m -/
def plG (f : Nat → Int) (x : Int) : Nat → Nat → Int
  | 0, _ => -1
  | m + 1, i => if f i = x then (i : Int) else plG f x m (i + 1)
def pl (l : List Int) (x : Int) : Int := plG (gl l) x l.length 0
theorem plG_congr {f g : Nat → Int} {x : Int} : ∀ (m i : Nat), (∀ k, i ≤ k → k < i + m → f k = g k) → plG f x m i = plG g x m i := by
  intro m
  induction m with
  | zero => intro i _; rfl
  | succ m ih =>
    intro i h
    unfold plG
    rw [h i (Nat.le_refl _) (by omega), ih (i + 1) (fun k h1 h2 => h k (by omega) (by omega))]
theorem plG_spec {f : Nat → Int} {x : Int} : ∀ (m i : Nat), (plG f x m i = -1 ∧ ∀ k, i ≤ k → k < i + m → f k ≠ x) ∨ ∃ k, i ≤ k ∧ k < i + m ∧ plG f x m i = (k : Int) ∧ f k = x ∧ ∀ j, i ≤ j → j < k → f j ≠ x := by
  intro m
  induction m with
  | zero => intro i; exact Or.inl ⟨rfl, fun k h1 h2 => by omega⟩
  | succ m ih =>
    intro i
    unfold plG
    by_cases h : f i = x
    · rw [if_pos h]; exact Or.inr ⟨i, Nat.le_refl _, by omega, rfl, h, fun j h1 h2 => by omega⟩
    · rw [if_neg h]
      rcases ih (i + 1) with ⟨h1, h2⟩ | ⟨k, h1, h2, h3, h4, h5⟩
      · refine Or.inl ⟨h1, fun k h3 h4 => ?_⟩
        by_cases hk : k = i
        · rw [hk]; exact h
        · exact h2 k (by omega) (by omega)
      · refine Or.inr ⟨k, by omega, by omega, h3, h4, fun j h6 h7 => ?_⟩
        by_cases hk : j = i
        · rw [hk]; exact h
        · exact h5 j (by omega) (by omega)
theorem pl_spec (l : List Int) (x : Int) : (pl l x = -1 ∧ x ∉ l) ∨ ∃ k, k < l.length ∧ pl l x = (k : Int) ∧ gl l k = x := by
  unfold pl
  rcases plG_spec (f := gl l) (x := x) l.length 0 with ⟨h1, h2⟩ | ⟨k, -, h2, h3, h4, -⟩
  · refine Or.inl ⟨h1, fun h => ?_⟩
    obtain ⟨i, hi, e⟩ := mem_gl h
    exact h2 i (Nat.zero_le _) (by omega) e
  · exact Or.inr ⟨k, by omega, h3, h4⟩
theorem pl_gl {l : List Int} (hn : l.Nodup) {k : Nat} (hk : k < l.length) : pl l (gl l k) = (k : Int) := by
  rcases pl_spec l (gl l k) with ⟨-, h⟩ | ⟨i, h1, h2, h3⟩
  · exact absurd (gl_mem hk) h
  · rw [h2, gl_inj hn h1 hk h3]
theorem pl_neg {l : List Int} {x : Int} : pl l x < 0 ↔ x ∉ l := by
  rcases pl_spec l x with ⟨h1, h2⟩ | ⟨k, h1, h2, h3⟩
  · rw [h1]; exact ⟨fun _ => h2, fun _ => by omega⟩
  · rw [h2]; exact ⟨fun h => by omega, fun h => absurd (h3 ▸ gl_mem h1) h⟩
theorem pl_ge (l : List Int) (x : Int) : -1 ≤ pl l x ∧ pl l x < l.length := by
  rcases pl_spec l x with ⟨h1, h2⟩ | ⟨k, h1, h2, h3⟩ <;> omega
theorem pl_m1 {l : List Int} {x : Int} : pl l x = -1 ↔ x ∉ l := by
  rw [← pl_neg]; have := pl_ge l x; omega
/-- one more of a copy -/
theorem wCI_zero (σ : gMem) (a sp b dp : Nat) : wCI σ a sp b dp 0 = σ := by
  show ((fun q j => if q = b ∧ dp ≤ j ∧ j < dp + 0 then σ.1 a (sp + (j - dp)) else σ.1 q j), σ.2) = σ
  have : (fun q j => if q = b ∧ dp ≤ j ∧ j < dp + 0 then σ.1 a (sp + (j - dp)) else σ.1 q j) = σ.1 := by
    funext q j; rw [if_neg (by omega)]
  rw [this]
theorem wCI_succ {σ : gMem} {a sp b dp n : Nat} (h : ¬ (a = b ∧ dp ≤ sp + n ∧ sp + n < dp + n)) : wI (wCI σ a sp b dp n) b (dp + n) (mI (wCI σ a sp b dp n) a (sp + n)) = wCI σ a sp b dp (n + 1) := by
  unfold wI
  rw [mI_of]
  show (gu2 (wCI σ a sp b dp n).1 b (dp + n) ((wCI σ a sp b dp n).1 a (sp + n)), σ.2) = wCI σ a sp b dp (n + 1)
  unfold wCI gu2
  dsimp only
  congr 1
  funext q j
  by_cases h1 : q = b ∧ j = dp + n
  · rw [if_pos h1, if_neg h, if_pos ⟨h1.1, by omega, by omega⟩]
    have e : j - dp = n := by have := h1.2; omega
    rw [e]
  · rw [if_neg h1]
    by_cases h2 : q = b ∧ dp ≤ j ∧ j < dp + n
    · rw [if_pos h2, if_pos ⟨h2.1, h2.2.1, by omega⟩]
    · rw [if_neg h2, if_neg (fun h3 => h2 ⟨h3.1, h3.2.1, by have := h3.2.2; by_cases hj : j = dp + n; exact absurd ⟨h3.1, hj⟩ h1; omega⟩)]
end Bas
