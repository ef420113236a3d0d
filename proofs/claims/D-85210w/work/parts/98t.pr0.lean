/-! ===== PHASE 2: reading: two runs side by side, the text ===== -/
section Read0
/-- two answers are there, and they fulfil -/
def E2 {α β : Type} (x : Option α) (y : Option β) (Φ : α → β → Prop) : Prop := ∃ a b, x = some a ∧ y = some b ∧ Φ a b
variable {α β γ δ : Type} {Φ : α → β → Prop} {Ψ : γ → δ → Prop} {x x' : Option α} {y y' : Option β}
theorem E2.r {a : α} {b : β} (h : Φ a b) : E2 (some a) (some b) Φ := ⟨a, b, rfl, rfl, h⟩
theorem E2.lg {c : Prop} [Decidable c] (h : c) (k : E2 x y Φ) : E2 (if c then x else x') y Φ := by rw [if_pos h]; exact k
theorem E2.lf {c : Prop} [Decidable c] (h : ¬ c) (k : E2 x' y Φ) : E2 (if c then x else x') y Φ := by rw [if_neg h]; exact k
theorem E2.rg {c : Prop} [Decidable c] (h : c) (k : E2 x y Φ) : E2 x (if c then y else y') Φ := by rw [if_pos h]; exact k
theorem E2.rf {c : Prop} [Decidable c] (h : ¬ c) (k : E2 x y' Φ) : E2 x (if c then y else y') Φ := by rw [if_neg h]; exact k
theorem E2.lc {u : Option γ} {f : γ → Option α} {P : γ → Prop} (h : Ev u P) (k : ∀ a, P a → E2 (f a) y Φ) : E2 (u.bind f) y Φ := by
  obtain ⟨a, rfl, p⟩ := h; exact k a p
theorem E2.rc {u : Option δ} {f : δ → Option β} {P : δ → Prop} (h : Ev u P) (k : ∀ b, P b → E2 x (f b) Φ) : E2 x (u.bind f) Φ := by
  obtain ⟨a, rfl, p⟩ := h; exact k a p
theorem E2.le {u : Option γ} {f : γ → Option α} {a : γ} (e : u = some a) (k : E2 (f a) y Φ) : E2 (u.bind f) y Φ := by subst e; exact k
theorem E2.re {u : Option δ} {f : δ → Option β} {b : δ} (e : u = some b) (k : E2 x (f b) Φ) : E2 x (u.bind f) Φ := by subst e; exact k
theorem E2.cc {u : Option γ} {w : Option δ} {f : γ → Option α} {g : δ → Option β} (h : E2 u w Ψ) (k : ∀ a b, Ψ a b → E2 (f a) (g b) Φ) : E2 (u.bind f) (w.bind g) Φ := by
  obtain ⟨a, b, rfl, rfl, p⟩ := h; exact k a b p
theorem E2.ll {m : gMem} {f : gMem → Option α} (k : E2 (f m) y Φ) : E2 (gLet m f) y Φ := k
theorem E2.rl {m : gMem} {f : gMem → Option β} (k : E2 x (f m) Φ) : E2 x (gLet m f) Φ := k
theorem E2.m {Φ' : α → β → Prop} (h : E2 x y Φ) (k : ∀ a b, Φ a b → Φ' a b) : E2 x y Φ' := by
  obtain ⟨a, b, e1, e2, p⟩ := h; exact ⟨a, b, e1, e2, k a b p⟩
theorem E2.lv {a : α} (h : x = some a) (k : Ev y (Φ a)) : E2 x y Φ := by
  obtain ⟨b, e, p⟩ := k; exact ⟨a, b, h, e, p⟩
theorem E2.vv {P : α → Prop} {Q : β → Prop} (h : Ev x P) (k : Ev y Q) (m : ∀ a b, P a → Q b → Φ a b) : E2 x y Φ := by
  obtain ⟨a, e1, p⟩ := h; obtain ⟨b, e2, q⟩ := k; exact ⟨a, b, e1, e2, m a b p q⟩
/-- a text: its bytes, -1 behind its end -/
def TxB (bA : Nat → Int) (hi all : Nat) : Prop := (∀ k, k < hi → 0 ≤ bA k ∧ bA k < 256) ∧ (∀ k, hi ≤ k → bA k = -1) ∧ hi ≤ all ∧ all ≤ 400
theorem TxB.rng {bA : Nat → Int} {hi all : Nat} (t : TxB bA hi all) (k : Nat) : -1 ≤ bA k ∧ bA k < 256 := by
  by_cases c : k < hi
  · have := t.1 k c; omega
  · have := t.2.1 k (by omega); omega
theorem TxB.lt {bA : Nat → Int} {hi all k : Nat} (t : TxB bA hi all) (h : bA k ≠ -1) : k < hi := by
  by_cases c : k < hi
  · exact c
  · exact absurd (t.2.1 k (by omega)) h
def isD (c : Int) : Bool := decide (48 ≤ c ∧ c ≤ 57)
def isL (c : Int) : Bool := decide (65 ≤ c ∧ c ≤ 90)
def isG (c : Int) : Bool := decide (32 ≤ c ∧ c ≤ 126)
def isBl (c : Int) : Bool := decide (c = 32)
/-- from p on, e is the first one that is not so -/
def Fst (P : Int → Bool) (bA : Nat → Int) (p e : Nat) : Prop := p ≤ e ∧ (∀ k, p ≤ k → k < e → P (bA k) = true) ∧ P (bA e) = false
theorem Fst.uniq {P : Int → Bool} {bA : Nat → Int} {p e e' : Nat} (a : Fst P bA p e) (b : Fst P bA p e') : e = e' := by
  rcases Nat.lt_trichotomy e e' with h | h | h
  · have := b.2.1 e a.1 h; rw [a.2.2] at this; cases this
  · exact h
  · have := a.2.1 e' b.1 h; rw [b.2.2] at this; cases this
theorem Fst.rf {P : Int → Bool} {bA : Nat → Int} {p : Nat} (h : P (bA p) = false) : Fst P bA p p := ⟨Nat.le_refl _, fun k h1 h2 => by omega, h⟩
theorem Fst.step {P : Int → Bool} {bA : Nat → Int} {p e : Nat} (h : P (bA p) = true) (k : Fst P bA (p + 1) e) : Fst P bA p e :=
  ⟨by have := k.1; omega, fun j h1 h2 => by
    by_cases c : j = p
    · rw [c]; exact h
    · exact k.2.1 j (by omega) h2, k.2.2⟩
theorem Fst.le {P : Int → Bool} {bA : Nat → Int} {p e hi all : Nat} (t : TxB bA hi all) (h : Fst P bA p e) (n : P (-1) = false) : e ≤ hi ∨ e = p := by
  by_cases c : e = p
  · exact Or.inr c
  · left
    have := h.2.1 (e - 1) (by have := h.1; omega) (by have := h.1; omega)
    by_cases c2 : e ≤ hi
    · exact c2
    · rw [t.2.1 (e - 1) (by omega), n] at this; cases this
/-- signed bytes -/
def sby (u : Int) : Int := if u < 128 then u else u - 256
theorem sby_255 : ∀ u : Nat, u < 256 → bAnd (sby (u : Int)) 255 = (u : Int) := by decide +kernel
theorem sby_and {u : Int} (h1 : 0 ≤ u) (h2 : u < 256) : bAnd (sby u) 255 = u := by
  have := sby_255 u.toNat (by omega)
  rwa [show ((u.toNat : Nat) : Int) = u by omega] at this
theorem sby_lo {u c : Int} (h1 : 0 ≤ u) (h2 : u < 256) (h3 : 0 ≤ c) (h4 : c < 128) : sby u = c ↔ u = c := by unfold sby; split <;> omega
/-- the reader's text -/
def CSt (σ : gMem) (x : Nat) (bA : Nat → Int) (hi all : Nat) : Prop :=
  mT σ (x + 1429) = 6 ∧ mI σ (x + 1429) 5 = hi ∧ mI σ (x + 1429) 4 = all ∧ mR σ (x + 1429) 3 = x + 1 ∧ mT σ (x + 1) = 102 ∧ mN σ (x + 1) = 400 ∧ (∀ k, k < hi → mI σ (x + 1) k = sby (bA k)) ∧ TxB bA hi all
/-- the twin's text -/
def TSt (τ : gMem) (h : Nat) (bA : Nat → Int) (hi all : Nat) : Prop :=
  mI τ h 44 = hi ∧ mI τ h 45 = all ∧ (∀ k, k < hi → mI τ (h + 27) k = bA k) ∧ TxB bA hi all
variable {N x h p hi all : Nat} {bA : Nat → Int} {σ σ' τ τ' s : gMem}
theorem c_here (c : CSt σ x bA hi all) (p : Nat) : x6_here (x + 1429) p σ = some (bA p) := by
  obtain ⟨c1, c2, c3, c4, c5, c6, c7, t⟩ := c
  have l1 := t.2.2.1
  have l2 := t.2.2.2
  unfold x6_here
  rw [if_pos c1, c2]
  by_cases q : p < hi
  · have := t.1 p q
    rw [if_neg (by omega), c4, if_pos c5, c6, if_pos (by omega), tn, c7 p q, sby_and this.1 this.2]
  · rw [if_pos (by omega), t.2.1 p (by omega)]
theorem t_byteAt (c : TSt τ h bA hi all) (p : Nat) : tw_byteAt h p τ = some (bA p) := by
  obtain ⟨c1, c2, c3, t⟩ := c
  have l1 := t.2.2.1
  have l2 := t.2.2.2
  unfold tw_byteAt
  rw [c1]
  by_cases q : p < hi
  · rw [if_neg (by omega), if_pos (by omega), tn, c3 p q]
  · rw [if_pos (by omega), t.2.1 p (by omega)]
theorem c_isDigit (v : Int) : x6_isDigit v σ = some (if isD v then 1 else 0) := by
  unfold x6_isDigit isD
  by_cases a : v < 48
  · rw [if_pos a, decide_eq_false (by omega)]; rfl
  · rw [if_neg a]
    by_cases b : 57 < v
    · rw [if_pos b, decide_eq_false (by omega)]; rfl
    · rw [if_neg b, decide_eq_true (by omega)]; rfl
theorem c_isLetter (v : Int) : x6_isLetter v σ = some (if isL v then 1 else 0) := by
  unfold x6_isLetter isL
  by_cases a : v < 65
  · rw [if_pos a, decide_eq_false (by omega)]; rfl
  · rw [if_neg a]
    by_cases b : 90 < v
    · rw [if_pos b, decide_eq_false (by omega)]; rfl
    · rw [if_neg b, decide_eq_true (by omega)]; rfl
theorem c_isSign (v : Int) : x6_isSign v σ = some (if isG v then 1 else 0) := by
  unfold x6_isSign isG
  by_cases a : v < 32
  · rw [if_pos a, decide_eq_false (by omega)]; rfl
  · rw [if_neg a]
    by_cases b : 127 ≤ v
    · rw [if_pos b, decide_eq_false (by omega)]; rfl
    · rw [if_neg b, decide_eq_true (by omega)]; rfl
theorem t_in (v l m : Int) : tw_in v l m τ = some (if l ≤ v ∧ v ≤ m then 1 else 0) := by
  unfold tw_in
  by_cases a : v < l
  · rw [if_pos a, if_neg (by omega)]
  · rw [if_neg a]
    by_cases b : m < v
    · rw [if_pos b, if_neg (by omega)]
    · rw [if_neg b, if_pos (by omega)]
theorem ite01 {c : Prop} [Decidable c] : (if c then (1 : Int) else 0) = 0 ∨ (if c then (1 : Int) else 0) = 1 := by
  by_cases h : c
  · rw [if_pos h]; exact Or.inr rfl
  · rw [if_neg h]; exact Or.inl rfl
theorem t_isDigit (v : Int) : tw_isDigit v τ = some (if isD v then 1 else 0) := by
  unfold tw_isDigit isD
  rw [t_in, Option.bind_some, if_pos ite01]
  by_cases c : 48 ≤ v ∧ v ≤ 57
  · rw [if_pos c, decide_eq_true c]; rfl
  · rw [if_neg c, decide_eq_false c]; rfl
theorem t_isLetter (v : Int) : tw_isLetter v τ = some (if isL v then 1 else 0) := by
  unfold tw_isLetter isL
  rw [t_in, Option.bind_some, if_pos ite01]
  by_cases c : 65 ≤ v ∧ v ≤ 90
  · rw [if_pos c, decide_eq_true c]; rfl
  · rw [if_neg c, decide_eq_false c]; rfl
theorem t_isSign (v : Int) : tw_isSign v τ = some (if isG v then 1 else 0) := by
  unfold tw_isSign isG
  rw [t_in, Option.bind_some, if_pos ite01]
  by_cases c : 32 ≤ v ∧ v ≤ 126
  · rw [if_pos c, decide_eq_true c]; rfl
  · rw [if_neg c, decide_eq_false c]; rfl
/-- one int of the reader is written -/
def Rq (x k a i : Nat) : Prop := a = x + 1429 ∧ i = k
theorem CSt.ex {P : Nat → Nat → Prop} (c : CSt σ x bA hi all) (e : Ex P σ σ') (h : ∀ i, (i = 4 ∨ i = 5) → ¬ P (x + 1429) i) (h1 : ∀ i, ¬ P (x + 1) i) : CSt σ' x bA hi all := by
  obtain ⟨c1, c2, c3, c4, c5, c6, c7, t⟩ := c
  exact ⟨by rw [e.rT]; exact c1, by rw [e.rI (h 5 (by omega))]; exact c2, by rw [e.rI (h 4 (by omega))]; exact c3, by rw [e.rR]; exact c4, by rw [e.rT]; exact c5, by rw [e.rN]; exact c6, fun k hk => by rw [e.rI (h1 k)]; exact c7 k hk, t⟩
theorem TSt.ex {P : Nat → Nat → Prop} (c : TSt τ h bA hi all) (e : Ex P τ τ') (h0 : ∀ i, (i = 44 ∨ i = 45) → ¬ P h i) (h1 : ∀ i, ¬ P (h + 27) i) : TSt τ' h bA hi all := by
  obtain ⟨c1, c2, c3, t⟩ := c
  exact ⟨by rw [e.rI (h0 44 (by omega))]; exact c1, by rw [e.rI (h0 45 (by omega))]; exact c2, fun k hk => by rw [e.rI (h1 k)]; exact c3 k hk, t⟩
theorem c_peek_l {K : gMem → Option (Int × gMem)} {Φ' : Int × gMem → Prop} {q : Nat} (hK : ∀ s, Ex (Rq x 6) σ s → mI s (x + 1429) 6 = q → CSt s x bA hi all → Ev (K s) Φ') : ∀ (m p f : Nat) (s : gMem), p + m = q → m < f → Fst isBl bA p q → Ex (Rq x 6) σ s → mI s (x + 1429) 6 = p → CSt s x bA hi all → Ev (x6_peek_l0 N (x + 1429) K f s) Φ' := by
  have NB : ∀ {s : gMem} {p : Nat}, CSt s x bA hi all → p < hi → (mI s (x + 1) p ≠ 32 ↔ isBl (bA p) = false) := fun c hp => by
    obtain ⟨c1, c2, c3, c4, c5, c6, c7, t⟩ := c
    have := t.1 _ hp
    rw [c7 _ hp]
    unfold isBl
    rw [decide_eq_false_iff_not]
    exact not_congr (sby_lo this.1 this.2 (by decide) (by decide))
  intro m
  induction m with
  | zero =>
    intro p f s h1 h2 F X g c
    obtain ⟨f, rfl⟩ : ∃ j, f = j + 1 := ⟨f - 1, by omega⟩
    obtain rfl : p = q := by omega
    have c0 := c
    obtain ⟨c1, c2, c3, c4, c5, c6, c7, t⟩ := c
    have l1 := t.2.2.1
    have l2 := t.2.2.2
    unfold x6_peek_l0
    rw [c2, g]
    refine Ev.g c1 ?_
    by_cases d : hi ≤ p
    · exact Ev.g (by omega) (hK s X g c0)
    · refine Ev.f (by omega) ?_
      rw [c4, c6, tn]
      exact Ev.g c5 (Ev.g (by omega) (Ev.g ((NB c0 (by omega)).mpr F.2.2) (hK s X g c0)))
  | succ m ih =>
    intro p f s h1 h2 F X g c
    obtain ⟨f, rfl⟩ : ∃ j, f = j + 1 := ⟨f - 1, by omega⟩
    have bp := F.2.1 p (Nat.le_refl _) (by omega)
    have c0 := c
    obtain ⟨c1, c2, c3, c4, c5, c6, c7, t⟩ := c
    have l1 := t.2.2.1
    have l2 := t.2.2.2
    have hp : p < hi := t.lt (fun e => by rw [e] at bp; cases bp)
    unfold x6_peek_l0
    rw [c2, g, c4, c6, tn, inc32 (by omega)]
    refine Ev.g c1 (Ev.f (by omega) (Ev.g c5 (Ev.g (by omega) (Ev.f (fun z => ?_) (Ev.l (ih (p + 1) f _ (by omega) (by omega) ⟨by omega, fun k z1 z2 => F.2.1 k (by omega) z2, F.2.2⟩ (X.I ⟨rfl, rfl⟩) ?_ ?_))))))
    · rw [(NB c0 hp).mp z] at bp; cases bp
    · rw [mI_wI, if_pos ⟨rfl, rfl⟩, w32_i (by omega) (by omega)]
    · exact c0.ex (P := Rq x 6) (Ex.rf.I ⟨rfl, rfl⟩) (fun i hi z => by unfold Rq at z; omega) (fun i z => by unfold Rq at z; omega)
theorem Fst.ex {P : Int → Bool} (t : TxB bA hi all) (n : P (-1) = false) (p : Nat) : ∃ q, Fst P bA p q := by
  have : ∀ m p, hi ≤ p + m → ∃ q, Fst P bA p q := by
    intro m
    induction m with
    | zero => intro p hp; exact ⟨p, Fst.rf (by rw [t.2.1 p (by omega)]; exact n)⟩
    | succ m ih =>
      intro p hp
      cases e : P (bA p) with
      | false => exact ⟨p, Fst.rf e⟩
      | true =>
        obtain ⟨q, k⟩ := ih (p + 1) (by omega)
        exact ⟨q, k.step e⟩
  exact this hi p (by omega)
/-- blanks are gone over -/
theorem c_peek {q : Nat} (hN : 500 ≤ N) (c : CSt σ x bA hi all) (g : mI σ (x + 1429) 6 = p) (F : Fst isBl bA p q) : Ev (x6_peek N (x + 1429) σ) (fun r => r.1 = bA q ∧ Ex (Rq x 6) σ r.2 ∧ mI r.2 (x + 1429) 6 = q ∧ CSt r.2 x bA hi all) := by
  have c0 := c
  obtain ⟨c1, c2, c3, c4, c5, c6, c7, t⟩ := c
  have l1 := t.2.2.1
  have l2 := t.2.2.2
  have ql := F.le t rfl
  unfold x6_peek
  rw [c2, g]
  refine Ev.g c1 ?_
  by_cases d : hi ≤ p
  · have e : q = p := F.uniq (Fst.rf (by rw [t.2.1 p d]; rfl))
    exact Ev.g (by omega) (Ev.e (c_here c0 p) (Ev.r ⟨by rw [e], Ex.rf, by rw [e]; exact g, c0⟩))
  · refine Ev.f (by omega) ?_
    have b := t.1 p (by omega)
    rw [c4, c6, tn, c7 p (by omega), inc32 (by omega)]
    refine Ev.g c5 (Ev.g (by omega) ?_)
    cases e : isBl (bA p) with
    | false =>
      have e' : q = p := F.uniq (Fst.rf e)
      refine Ev.g (fun z => ?_) (Ev.e (c_here c0 p) (Ev.r ⟨by rw [e'], Ex.rf, by rw [e']; exact g, c0⟩))
      have := (sby_lo b.1 b.2 (by decide) (by decide)).mp z
      unfold isBl at e
      exact of_decide_eq_false e this
    | true =>
      have e32 : bA p = 32 := of_decide_eq_true e
      have pq : p ≠ q := fun z => by have := F.2.2; rw [← z, e] at this; cases this
      have := F.1
      refine Ev.f (fun z => z ((sby_lo b.1 b.2 (by decide) (by decide)).mpr e32)) (Ev.l ?_)
      refine c_peek_l (σ := σ) (q := q) (bA := bA) (hi := hi) (all := all) (fun s X g' c' => ?_) (q - (p + 1)) (p + 1) N _ (by omega) (by omega) ⟨by omega, fun k z1 z2 => F.2.1 k (by omega) z2, F.2.2⟩ (Ex.rf.I ⟨rfl, rfl⟩) ?_ ?_
      · rw [g']
        exact Ev.g c'.1 (Ev.e (c_here c' q) (Ev.r ⟨rfl, X, g', c'⟩))
      · rw [mI_wI, if_pos ⟨rfl, rfl⟩, w32_i (by omega) (by omega)]
      · exact c0.ex (P := Rq x 6) (Ex.rf.I ⟨rfl, rfl⟩) (fun i hi z => by unfold Rq at z; omega) (fun i z => by unfold Rq at z; omega)
end Read0
