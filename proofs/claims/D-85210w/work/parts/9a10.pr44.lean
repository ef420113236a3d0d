/-! ===== PHASE 2: reading: whole numbers that stand alone ===== -/
section Read44
variable {N x h hi all nv sh M lu0 b b' p q op pa pi n la fi : Nat} {bA bB g : Nat → Int} {f : Int → List Int × List Int} {σ σ' σ'' τ τ' τ'' s r σ0 τ0 σ1 τ2 : gMem}
def allD (g : Nat → Int) : Nat → Nat → Bool
  | 0, _ => true
  | m + 1, p => isD (g p) && allD g m (p + 1)
theorem allD_iff : ∀ (m p : Nat), allD g m p = true ↔ ∀ k, p ≤ k → k < p + m → isD (g k) = true := by
  intro m
  induction m with
  | zero => intro p; exact ⟨fun _ k h1 h2 => by omega, fun _ => rfl⟩
  | succ m ih =>
    intro p
    show (isD (g p) && allD g m (p + 1)) = true ↔ _
    rw [Bool.and_eq_true, ih]
    constructor
    · rintro ⟨a, b⟩ k h1 h2
      by_cases e : k = p
      · rw [e]; exact a
      · exact b k (by omega) (by omega)
    · intro a
      exact ⟨a p (Nat.le_refl _) (by omega), fun k h1 h2 => a k (by omega) (by omega)⟩
theorem allD_cg {g' : Nat → Int} : ∀ (m p : Nat), (∀ k, p ≤ k → k < p + m → g k = g' k) → allD g m p = allD g' m p := by
  intro m
  induction m with
  | zero => intro p _; rfl
  | succ m ih =>
    intro p e
    show (isD (g p) && allD g m (p + 1)) = (isD (g' p) && allD g' m (p + 1))
    rw [e p (Nat.le_refl _) (by omega), ih (p + 1) (fun k h1 h2 => e k (by omega) (by omega))]
/-- a whole number's bytes -/
def whF (g : Nat → Int) (lo : Nat) : Nat := if g lo = 45 then lo + 1 else lo
def whB (g : Nat → Int) (lo hi : Nat) : Bool := decide (whF g lo + 1 ≤ hi ∧ hi ≤ whF g lo + 15) && allD g (hi - whF g lo) (whF g lo)
theorem c_whole_l {a L : Nat} {K : Int → Option Int} (ht : mT σ a = 102) (hn : mN σ a = L) (L4 : L ≤ 400) (hl : hi ≤ L) (hg : ∀ k, k < hi → mI σ a k = g k) : ∀ (m p fu : Nat), p + m = hi → m < fu → x6_isWhole_l43 N σ a hi K (fu + 1) p 1 = K (if allD g m p then 1 else 0) := by
  intro m
  induction m with
  | zero =>
    intro p fu h1 h2
    unfold x6_isWhole_l43
    rw [if_neg (by decide), if_pos (by omega)]; rfl
  | succ m ih =>
    intro p fu h1 h2
    obtain ⟨fu, rfl⟩ : ∃ j, fu = j + 1 := ⟨fu - 1, by omega⟩
    unfold x6_isWhole_l43
    rw [if_neg (by decide), if_neg (by omega), if_pos ht, hn, if_pos (by omega), tn, hg p (by omega), c_isDigit, Option.bind_some, inc32 (by omega)]
    cases e : isD (g p) with
    | true =>
      rw [if_pos rfl, ih (p + 1) fu (by omega) (by omega)]
      show _ = K (if (isD (g p) && allD g m (p + 1)) = true then 1 else 0)
      rw [e, Bool.true_and]
    | false =>
      rw [if_neg (by decide)]
      unfold x6_isWhole_l43
      rw [if_pos rfl]
      show _ = K (if (isD (g p) && allD g m (p + 1)) = true then 1 else 0)
      rw [e, Bool.false_and]; rfl
theorem c_isWhole {a L lo : Nat} (hN : 500 ≤ N) (ht : mT σ a = 102) (hn : mN σ a = L) (L4 : L ≤ 400) (hl : hi ≤ L) (lh : lo ≤ hi) (hg : ∀ k, k < hi → mI σ a k = g k) (he : lo = hi → g lo ≠ 45) : x6_isWhole N a lo hi σ = some (if whB g lo hi then 1 else 0) := by
  have J : ∀ F : Nat, lo ≤ F → F ≤ lo + 1 → F = whF g lo → x6_isWhole_j20 N σ a hi F = some (if whB g lo hi then 1 else 0) := by
    intro F f1 f2 f3
    unfold x6_isWhole_j20 x6_isWhole_j40 x6_isWhole_j41 whB
    rw [← f3]
    have Z : ∀ t0 : Int, t0 = 0 → x6_isWhole_l43 N σ a hi (fun y5 => if y5 = 0 ∨ y5 = 1 then some y5 else none) N F t0 = some 0 := by
      intro t0 e
      obtain ⟨N', rfl⟩ : ∃ j, N = j + 1 := ⟨N - 1, by omega⟩
      unfold x6_isWhole_l43
      rw [if_pos e, e]; rfl
    have w : w32 ((hi : Int) - (F : Int)) = (hi : Int) - (F : Int) := w32_i (by omega) (by omega)
    rw [w]
    by_cases c1 : (hi : Int) - (F : Int) < 1
    · rw [if_pos c1, Z 0 rfl, decide_eq_false (by omega), Bool.false_and]; rfl
    · rw [if_neg c1]
      by_cases c2 : 15 < (hi : Int) - (F : Int)
      · rw [if_pos c2, Z 0 rfl, decide_eq_false (by omega), Bool.false_and]; rfl
      · rw [if_neg c2, decide_eq_true (by omega), Bool.true_and]
        obtain ⟨N', rfl⟩ : ∃ j, N = j + 1 := ⟨N - 1, by omega⟩
        rw [c_whole_l ht hn L4 hl hg (hi - F) F N' (by omega) (by omega)]
        exact if_pos (by cases allD g (hi - F) F; exact Or.inl rfl; exact Or.inr rfl)
  unfold x6_isWhole x6_isWhole_j19
  by_cases c : hi ≤ lo
  · rw [if_pos (by omega)]
    refine J lo (Nat.le_refl _) (by omega) ?_
    unfold whF
    rw [if_neg (he (by omega))]
  · rw [if_neg (by omega), if_pos ht, hn, if_pos (by omega), tn, hg lo (by omega)]
    by_cases e : g lo = 45
    · rw [if_neg (fun z => z e), inc32 (by omega)]
      refine J (lo + 1) (by omega) (by omega) ?_
      unfold whF; rw [if_pos e]
    · rw [if_pos e]
      refine J lo (Nat.le_refl _) (by omega) ?_
      unfold whF; rw [if_neg e]
theorem t_number_l36 {K : Option Int} (L4 : hi ≤ 400) (hg : ∀ k, k < hi → mI τ (h + 27) k = g k) : ∀ (m p fu : Nat), p + m = hi → m < fu → tw_isNumber_l36 N h τ hi K fu p = if allD g m p then K else some 0 := by
  intro m
  induction m with
  | zero =>
    intro p fu h1 h2
    obtain ⟨fu, rfl⟩ : ∃ j, fu = j + 1 := ⟨fu - 1, by omega⟩
    unfold tw_isNumber_l36
    rw [if_pos (by omega)]; rfl
  | succ m ih =>
    intro p fu h1 h2
    obtain ⟨fu, rfl⟩ : ∃ j, fu = j + 1 := ⟨fu - 1, by omega⟩
    unfold tw_isNumber_l36
    rw [if_neg (by omega), if_pos (by omega), tn, hg p (by omega), t_isDigit, Option.bind_some, inc32 (by omega)]
    show _ = if (isD (g p) && allD g m (p + 1)) = true then K else some 0
    cases e : isD (g p) with
    | true => rw [if_pos rfl, if_pos (by decide), ih (p + 1) fu (by omega) (by omega), Bool.true_and]
    | false => rw [if_neg (by decide : ¬ (if false = true then (1 : Int) else 0) ≠ 0), Bool.false_and]; rfl
theorem t_isNumber {lo : Nat} (hN : 500 ≤ N) (L4 : hi ≤ 400) (lh : lo < hi) (hg : ∀ k, k < hi → mI τ (h + 27) k = g k) : tw_isNumber N h lo hi τ = some (if whB g lo hi then 1 else 0) := by
  have J : ∀ F : Nat, lo ≤ F → F ≤ lo + 1 → F = whF g lo → tw_isNumber_j18 N h τ hi F = some (if whB g lo hi then 1 else 0) := by
    intro F f1 f2 f3
    unfold tw_isNumber_j18 whB
    rw [← f3, w32_i (by omega) (by omega), t_in, Option.bind_some]
    by_cases c : F + 1 ≤ hi ∧ hi ≤ F + 15
    · rw [if_pos (show 1 ≤ (hi : Int) - (F : Int) ∧ (hi : Int) - (F : Int) ≤ 15 by omega), if_pos (by decide), decide_eq_true c, Bool.true_and, t_number_l36 L4 hg (hi - F) F N (by omega) (by omega)]
      cases allD g (hi - F) F <;> rfl
    · rw [if_neg (show ¬ (1 ≤ (hi : Int) - (F : Int) ∧ (hi : Int) - (F : Int) ≤ 15) by omega), if_neg (by decide), decide_eq_false c, Bool.false_and]; rfl
  unfold tw_isNumber
  rw [if_pos (by omega), tn, hg lo lh]
  by_cases e : g lo = 45
  · rw [if_neg (fun z => z e), inc32 (by omega)]
    refine J (lo + 1) (by omega) (by omega) ?_
    unfold whF; rw [if_pos e]
  · rw [if_pos e]
    refine J lo (Nat.le_refl _) (by omega) ?_
    unfold whF; rw [if_neg e]
/-- whether all bytes are signs, or which one is the first that is none -/
theorem sg_first {hi : Nat} (g : Nat → Int) : (∀ k, k < hi → isG (g k) = true) ∨ ∃ w, w < hi ∧ isG (g w) = false ∧ ∀ k, k < w → isG (g k) = true := by
  induction hi with
  | zero => exact Or.inl (fun k hk => by omega)
  | succ n ih =>
    rcases ih with a | ⟨w, w1, w2, w3⟩
    · cases e : isG (g n) with
      | true =>
        left
        intro k hk
        by_cases z : k = n
        · rw [z]; exact e
        · exact a k (by omega)
      | false => exact Or.inr ⟨n, by omega, e, a⟩
    · exact Or.inr ⟨w, by omega, w2, w3⟩
end Read44
