/-! ===== PHASE 2, the plain law: values ===== -/
section SpecVal
/-- kind (0 nothing, 1 number, 2 text, 3 truth, 4 error), number, text -/
abbrev Vl : Type := Int × (Int × List Int)
def vE : Vl := (0, (0, []))
def vErr (n : Int) : Vl := (4, (n, []))
def vBe (n : Int) : Vl := if 1000000000000000 < n ∨ n < -1000000000000000 then vErr 4 else (1, (n, []))
def vIs (b : Bool) : Vl := (3, (if b then 1 else 0, []))
def vTx (t : List Int) : Vl := (2, (0, t))
def wantN (v : Vl) : Vl := if v.1 = 0 then vBe 0 else if v.1 = 1 then v else vErr 3
def wantB (v : Vl) : Vl := if v.1 = 0 then vIs false else if v.1 = 3 then v else vErr 3
/-- digits of a number, at most f -/
def dg : Nat → Nat → List Int
  | 0, _ => []
  | f + 1, m => if m < 10 then [48 + (m : Int)] else dg f (m / 10) ++ [48 + ((m % 10 : Nat) : Int)]
def decs (n : Int) : List Int := if n < 0 then 45 :: dg 20 (-n).toNat else dg 20 n.toNat
def tTRUE : List Int := [84, 82, 85, 69]
def tFALSE : List Int := [70, 65, 76, 83, 69]
def wantT (v : Vl) : Vl := if v.1 = 2 then v else if v.1 = 3 then vTx (if v.2.1 = 1 then tTRUE else tFALSE) else if v.1 = 1 then vTx (decs v.2.1) else vTx []
def vJoin (a b : Vl) : Vl := if 24 < a.2.2.length + b.2.2.length then vErr 5 else vTx (a.2.2 ++ b.2.2)
def adapt (a b : Vl) : Vl := if a.1 ≠ 0 then a else if b.1 = 2 then vTx [] else if b.1 = 3 then vIs false else vBe 0
/-- of two texts: -1, 0, 1 -/
def ordT : List Int → List Int → Int
  | [], [] => 0
  | [], _ :: _ => -1
  | _ :: _, [] => 1
  | x :: s, y :: t => if x = y then ordT s t else if x < y then -1 else 1
def ordV (a b : Vl) : Int := if a.1 = 2 then ordT a.2.2 b.2.2 else if a.2.1 < b.2.1 then -1 else if b.2.1 < a.2.1 then 1 else 0
def holds (o : Int) (k : Nat) : Bool := match k with
  | 0 => decide (o = 0)
  | 1 => decide (o ≠ 0)
  | 2 => decide (o < 0)
  | 3 => decide (o ≤ 0)
  | 4 => decide (0 < o)
  | _ => decide (0 ≤ o)
def vCmp (k : Nat) (a b : Vl) : Vl :=
  let a' := adapt a b
  let b' := adapt b a'
  if a'.1 ≠ b'.1 then (if k < 2 then vIs (decide (k = 1)) else vErr 3) else vIs (holds (ordV a' b') k)
def vReck (k : Nat) (m n : Int) : Vl :=
  if k = 17 then vBe (m + n) else if k = 18 then vBe (m - n) else if k = 19 then vBe (m * n) else if n = 0 then vErr 2 else if k = 20 then vBe (Int.tdiv m n) else vBe (Int.tmod m n)
/-- what a sign makes of two values that are no errors -/
def vTwo (k : Nat) (a b : Vl) : Vl :=
  if k < 16 then vCmp (k - 10) a b else if k = 16 then vJoin (wantT a) (wantT b)
  else if (wantN a).1 ≠ 1 then wantN a else if (wantN b).1 ≠ 1 then wantN b else vReck k (wantN a).2.1 (wantN b).2.1
def vCut (n : Int) (last : Bool) (t : List Int) : List Int :=
  let m := min n.toNat t.length
  if last then t.drop (t.length - m) else t.take m
/-- what a value is like -/
def VOk (v : Vl) : Prop := (v = vE) ∨ (∃ n, v = (1, (n, [])) ∧ -1000000000000000 ≤ n ∧ n ≤ 1000000000000000) ∨ (∃ t, v = vTx t ∧ t.length ≤ 24 ∧ ∀ c ∈ t, 32 ≤ c ∧ c ≤ 126) ∨ (∃ b, v = vIs b) ∨ (∃ n, v = vErr n ∧ 1 ≤ n ∧ n ≤ 7)
theorem VOk.e : VOk vE := Or.inl rfl
theorem VOk.err {n : Int} (h1 : 1 ≤ n) (h2 : n ≤ 7) : VOk (vErr n) := Or.inr (Or.inr (Or.inr (Or.inr ⟨n, rfl, h1, h2⟩)))
theorem VOk.is {b : Bool} : VOk (vIs b) := Or.inr (Or.inr (Or.inr (Or.inl ⟨b, rfl⟩)))
theorem VOk.tx {t : List Int} (h1 : t.length ≤ 24) (h2 : ∀ c ∈ t, 32 ≤ c ∧ c ≤ 126) : VOk (vTx t) := Or.inr (Or.inr (Or.inl ⟨t, rfl, h1, h2⟩))
theorem VOk.num {n : Int} (h1 : -1000000000000000 ≤ n) (h2 : n ≤ 1000000000000000) : VOk (1, (n, [])) := Or.inr (Or.inl ⟨n, rfl, h1, h2⟩)
theorem VOk.be {n : Int} : VOk (vBe n) := by
  unfold vBe
  by_cases h : 1000000000000000 < n ∨ n < -1000000000000000
  · rw [if_pos h]; exact VOk.err (by decide) (by decide)
  · rw [if_neg h]; exact VOk.num (by omega) (by omega)
theorem VOk.toN {v : Vl} (h : VOk v) : VOk (wantN v) := by
  unfold wantN
  split
  · exact VOk.be
  · split
    · exact h
    · exact VOk.err (by decide) (by decide)
theorem VOk.toB {v : Vl} (h : VOk v) : VOk (wantB v) := by
  unfold wantB
  split
  · exact VOk.is
  · split
    · exact h
    · exact VOk.err (by decide) (by decide)
theorem dg_len : ∀ (f m : Nat), (dg f m).length ≤ f := by
  intro f
  induction f with
  | zero => intro m; exact Nat.le_refl _
  | succ f ih =>
    intro m
    unfold dg
    split
    · simp
    · have := ih (m / 10); simp; omega
/-- fewer than f digits are enough -/
theorem dg_len' : ∀ (f k m : Nat), k ≤ f → m < 10 ^ k → 0 < k → (dg f m).length ≤ k := by
  intro f
  induction f with
  | zero => intro k m h _ h3; omega
  | succ f ih =>
    intro k m h h2 h3
    unfold dg
    by_cases h10 : m < 10
    · rw [if_pos h10]; simp; omega
    · rw [if_neg h10]
      obtain ⟨k, rfl⟩ : ∃ j, k = j + 1 := ⟨k - 1, by omega⟩
      have hk : 0 < k := by
        rcases Nat.eq_zero_or_pos k with e | e
        · rw [e] at h2; omega
        · exact e
      have : m / 10 < 10 ^ k := by rw [Nat.div_lt_iff_lt_mul (by decide)]; rw [Nat.pow_succ] at h2; exact h2
      have := ih k (m / 10) (by omega) this hk
      simp; omega
theorem dg_rng : ∀ (f m : Nat), ∀ c ∈ dg f m, 48 ≤ c ∧ c ≤ 57 := by
  intro f
  induction f with
  | zero => intro m c hc; cases hc
  | succ f ih =>
    intro m c hc
    unfold dg at hc
    by_cases h10 : m < 10
    · rw [if_pos h10] at hc; simp at hc; omega
    · rw [if_neg h10] at hc
      rcases List.mem_append.mp hc with h | h
      · exact ih _ c h
      · simp at h; omega
theorem decs_len {n : Int} (h1 : -1000000000000000 ≤ n) (h2 : n ≤ 1000000000000000) : (decs n).length ≤ 17 := by
  unfold decs
  split
  · have := dg_len' 20 16 (-n).toNat (by decide) (by omega) (by decide)
    simp; omega
  · have := dg_len' 20 16 n.toNat (by decide) (by omega) (by decide)
    omega
theorem decs_rng (n : Int) : ∀ c ∈ decs n, 32 ≤ c ∧ c ≤ 126 := by
  intro c hc
  unfold decs at hc
  split at hc
  · rcases List.mem_cons.mp hc with h | h
    · omega
    · have := dg_rng _ _ c h; omega
  · have := dg_rng _ _ c hc; omega
theorem VOk.toT {v : Vl} (h : VOk v) : VOk (wantT v) := by
  unfold wantT
  split
  · exact h
  · split
    · split
      · exact VOk.tx (by decide) (by decide)
      · exact VOk.tx (by decide) (by decide)
    · split
      · rcases h with rfl | ⟨n, rfl, h1, h2⟩ | ⟨t, rfl, -, -⟩ | ⟨b, rfl⟩ | ⟨n, rfl, -, -⟩
        · exact absurd ‹_› (by decide)
        · exact VOk.tx (Nat.le_trans (decs_len h1 h2) (by decide)) (decs_rng n)
        · exact absurd ‹_› (by show ¬ (2 : Int) = 1; decide)
        · exact absurd ‹_› (by show ¬ (3 : Int) = 1; decide)
        · exact absurd ‹_› (by show ¬ (4 : Int) = 1; decide)
      · exact VOk.tx (by decide) (by decide)
theorem VOk.txt {v : Vl} (h : VOk v) : v.2.2.length ≤ 24 ∧ ∀ c ∈ v.2.2, 32 ≤ c ∧ c ≤ 126 := by
  rcases h with rfl | ⟨n, rfl, -, -⟩ | ⟨t, rfl, h1, h2⟩ | ⟨b, rfl⟩ | ⟨n, rfl, -, -⟩
  · exact ⟨by decide, by decide⟩
  · exact ⟨by simp, by simp⟩
  · exact ⟨h1, h2⟩
  · exact ⟨by simp [vIs], by simp [vIs]⟩
  · exact ⟨by simp [vErr], by simp [vErr]⟩
theorem VOk.join {a b : Vl} (ha : VOk a) (hb : VOk b) : VOk (vJoin a b) := by
  unfold vJoin
  split
  · exact VOk.err (by decide) (by decide)
  · refine VOk.tx (by rw [List.length_append]; omega) (fun c hc => ?_)
    rcases List.mem_append.mp hc with h | h
    · exact ha.txt.2 c h
    · exact hb.txt.2 c h
theorem VOk.ad {a b : Vl} (ha : VOk a) : VOk (adapt a b) := by
  unfold adapt
  split
  · exact ha
  · split
    · exact VOk.tx (by decide) (by decide)
    · split
      · exact VOk.is
      · exact VOk.be
theorem VOk.cmp {k : Nat} {a b : Vl} : VOk (vCmp k a b) := by
  unfold vCmp
  dsimp only
  split
  · split
    · exact VOk.is
    · exact VOk.err (by decide) (by decide)
  · exact VOk.is
theorem VOk.reck {k : Nat} {m n : Int} : VOk (vReck k m n) := by
  unfold vReck
  split
  · exact VOk.be
  · split
    · exact VOk.be
    · split
      · exact VOk.be
      · split
        · exact VOk.err (by decide) (by decide)
        · split <;> exact VOk.be
theorem VOk.two {k : Nat} {a b : Vl} (ha : VOk a) (hb : VOk b) : VOk (vTwo k a b) := by
  unfold vTwo
  split
  · exact VOk.cmp
  · split
    · exact VOk.join ha.toT hb.toT
    · split
      · exact ha.toN
      · split
        · exact hb.toN
        · exact VOk.reck
theorem VOk.k {v : Vl} (h : VOk v) : 0 ≤ v.1 ∧ v.1 ≤ 4 := by
  rcases h with rfl | ⟨n, rfl, -, -⟩ | ⟨t, rfl, -, -⟩ | ⟨b, rfl⟩ | ⟨n, rfl, -, -⟩
  · exact ⟨by decide, by decide⟩
  · exact ⟨by show (0 : Int) ≤ 1; decide, by show (1 : Int) ≤ 4; decide⟩
  · exact ⟨by show (0 : Int) ≤ 2; decide, by show (2 : Int) ≤ 4; decide⟩
  · exact ⟨by show (0 : Int) ≤ 3; decide, by show (3 : Int) ≤ 4; decide⟩
  · exact ⟨by show (0 : Int) ≤ 4; decide, by show (4 : Int) ≤ 4; decide⟩
/-- of a value its kind tells the rest -/
theorem VOk.k0 {v : Vl} (h : VOk v) (e : v.1 = 0) : v = vE := by
  rcases h with rfl | ⟨n, rfl, -, -⟩ | ⟨t, rfl, -, -⟩ | ⟨b, rfl⟩ | ⟨n, rfl, -, -⟩
  · rfl
  all_goals exact absurd e (by intro h; cases h)
theorem VOk.k1 {v : Vl} (h : VOk v) (e : v.1 = 1) : v = (1, (v.2.1, [])) ∧ -1000000000000000 ≤ v.2.1 ∧ v.2.1 ≤ 1000000000000000 := by
  rcases h with rfl | ⟨n, rfl, h1, h2⟩ | ⟨t, rfl, -, -⟩ | ⟨b, rfl⟩ | ⟨n, rfl, -, -⟩
  · exact absurd e (by intro h; cases h)
  · exact ⟨rfl, h1, h2⟩
  all_goals exact absurd e (by intro h; cases h)
theorem VOk.k2 {v : Vl} (h : VOk v) (e : v.1 = 2) : v = vTx v.2.2 := by
  rcases h with rfl | ⟨n, rfl, h1, h2⟩ | ⟨t, rfl, -, -⟩ | ⟨b, rfl⟩ | ⟨n, rfl, -, -⟩
  · exact absurd e (by intro h; cases h)
  · exact absurd e (by intro h; cases h)
  · rfl
  all_goals exact absurd e (by intro h; cases h)
theorem VOk.k3 {v : Vl} (h : VOk v) (e : v.1 = 3) : v = vIs (decide (v.2.1 = 1)) ∧ (v.2.1 = 0 ∨ v.2.1 = 1) := by
  rcases h with rfl | ⟨n, rfl, h1, h2⟩ | ⟨t, rfl, -, -⟩ | ⟨b, rfl⟩ | ⟨n, rfl, -, -⟩
  · exact absurd e (by intro h; cases h)
  · exact absurd e (by intro h; cases h)
  · exact absurd e (by intro h; cases h)
  · cases b
    · exact ⟨rfl, Or.inl rfl⟩
    · exact ⟨rfl, Or.inr rfl⟩
  · exact absurd e (by intro h; cases h)
theorem VOk.k4 {v : Vl} (h : VOk v) (e : v.1 = 4) : v = vErr v.2.1 ∧ 1 ≤ v.2.1 ∧ v.2.1 ≤ 7 := by
  rcases h with rfl | ⟨n, rfl, h1, h2⟩ | ⟨t, rfl, -, -⟩ | ⟨b, rfl⟩ | ⟨n, rfl, h1, h2⟩
  · exact absurd e (by intro h; cases h)
  · exact absurd e (by intro h; cases h)
  · exact absurd e (by intro h; cases h)
  · exact absurd e (by intro h; cases h)
  · exact ⟨rfl, h1, h2⟩
theorem VOk.nt {v : Vl} (h : VOk v) (e : v.1 ≠ 2) : v.2.2 = [] := by
  rcases h with rfl | ⟨n, rfl, -, -⟩ | ⟨t, rfl, -, -⟩ | ⟨b, rfl⟩ | ⟨n, rfl, -, -⟩
  · rfl
  · rfl
  · exact absurd rfl e
  · rfl
  · rfl
theorem ordT_self (s : List Int) : ordT s s = 0 := by
  induction s with
  | nil => rfl
  | cons x s ih => unfold ordT; rw [if_pos rfl]; exact ih
theorem ordT_rng (s t : List Int) : -1 ≤ ordT s t ∧ ordT s t ≤ 1 := by
  induction s generalizing t with
  | nil =>
    cases t with
    | nil => exact ⟨by decide, by decide⟩
    | cons y t => exact ⟨by show (-1 : Int) ≤ -1; decide, by show (-1 : Int) ≤ 1; decide⟩
  | cons x s ih =>
    cases t with
    | nil => exact ⟨by show (-1 : Int) ≤ 1; decide, by show (1 : Int) ≤ 1; decide⟩
    | cons y t =>
      unfold ordT
      split
      · exact ih t
      · split <;> exact ⟨by decide, by decide⟩
end SpecVal
