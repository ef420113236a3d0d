/-! ===== PHASE 2: the twin's sheets: lines, places, contents ===== -/
section TwSheet
variable {N h : Nat} {σ : gMem}
def tLn (σ : gMem) (h s : Nat) (ax : Int) : Int := if ax ≠ 0 then mI σ (h + 2) s else mI σ (h + 1) s
def tLi (σ : gMem) (h s : Nat) (ax : Int) (k : Nat) : Int := if ax ≠ 0 then mI σ (h + 4) (10 * s + k) else mI σ (h + 3) (32 * s + k)
def axM (ax : Int) : Nat := if ax ≠ 0 then 10 else 32
theorem axM_le (ax : Int) : axM ax ≤ 32 := by unfold axM; split <;> omega
theorem t_linesOf {s : Nat} {ax : Int} (hs : s < 122) : tw_linesOf h s ax σ = some (tLn σ h s ax) := by
  unfold tw_linesOf tLn
  have e : ((s : Int)).toNat = s := by omega
  by_cases h0 : ax ≠ 0
  · rw [if_pos h0, if_pos h0, if_pos (by omega), e]
  · rw [if_neg h0, if_neg h0, if_pos (by omega), e]
theorem t_lineAt {s k : Nat} {ax : Int} (hs : s < 122) (hk : k < axM ax) : tw_lineAt h s ax k σ = some (tLi σ h s ax k) := by
  unfold tw_lineAt tLi
  unfold axM at hk
  by_cases h0 : ax ≠ 0
  · rw [if_pos h0] at hk
    have e : ((10 * (s : Int)) + k).toNat = 10 * s + k := by omega
    rw [if_pos h0, if_pos h0, if_pos (by omega), e]
  · rw [if_neg h0] at hk
    have e : ((32 * (s : Int)) + k).toNat = 32 * s + k := by omega
    rw [if_neg h0, if_neg h0, if_pos (by omega), e]
theorem inc32 {i : Nat} (h : i < 2147483647) : w32 ((i : Int) + 1) = ((i + 1 : Nat) : Int) := by rw [w32_i (by omega) (by omega)]; omega
theorem dec32 {i : Nat} (h0 : 0 < i) (h : i < 2147483647) : w32 ((i : Int) - 1) = ((i - 1 : Nat) : Int) := by rw [w32_i (by omega) (by omega)]; omega
theorem t_placeOf_l {s n : Nat} {ax id : Int} (hs : s < 122) (hn : tLn σ h s ax = (n : Int)) (hm : n ≤ axM ax) : ∀ (m i f : Nat), i + m = n → m < f → tw_placeOf_l3 N h σ s ax id (some (-1)) f i = some (plG (tLi σ h s ax) id m i) := by
  intro m
  induction m with
  | zero =>
    intro i f h1 h2
    obtain ⟨f, rfl⟩ : ∃ g, f = g + 1 := ⟨f - 1, by omega⟩
    unfold tw_placeOf_l3
    rw [t_linesOf hs, Option.bind_some, hn, if_pos (by omega)]; rfl
  | succ m ih =>
    intro i f h1 h2
    obtain ⟨f, rfl⟩ : ∃ g, f = g + 1 := ⟨f - 1, by omega⟩
    have := axM_le ax
    unfold tw_placeOf_l3 plG
    rw [t_linesOf hs, Option.bind_some, hn, if_neg (by omega), t_lineAt hs (by omega), Option.bind_some]
    by_cases he : tLi σ h s ax i = id
    · rw [if_neg (fun q => q he), if_pos he]
    · rw [if_pos he, if_neg he, inc32 (by omega), ih (i + 1) f (by omega) (by omega)]
/-- the lines of a sheet, as a list -/
def tLs (σ : gMem) (h s : Nat) (ax : Int) : List Int := lst (tLn σ h s ax).toNat (tLi σ h s ax)
theorem t_placeOf {s : Nat} {ax id : Int} (hs : s < 122) (h0 : 0 ≤ tLn σ h s ax) (hm : tLn σ h s ax ≤ axM ax) (hN : 40 ≤ N) : tw_placeOf N h s ax id σ = some (pl (tLs σ h s ax) id) := by
  unfold tw_placeOf
  have := axM_le ax
  have e := t_placeOf_l (σ := σ) (h := h) (N := N) (s := s) (n := (tLn σ h s ax).toNat) (ax := ax) (id := id) hs (by omega) (by omega) (tLn σ h s ax).toNat 0 N (by omega) (by omega)
  rw [show ((0 : Nat) : Int) = 0 from rfl] at e
  rw [e]
  unfold pl tLs
  rw [lst_len]
  congr 1
  exact (plG_congr _ _ (fun k _ hk => gl_lst (by omega))).symm
end TwSheet
