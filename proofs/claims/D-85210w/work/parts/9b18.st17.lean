/-! ===== PHASE 2: contents that are alike: the class ===== -/
section Alike1
variable {N x q q' a b : Nat} {σ : gMem} {p p' : Pt} {v w : Int} {P Q : Prop} {ct ct' : Ct}
/-- 1 or 0, as it is so or not -/
def Is01 (v : Int) (P : Prop) : Prop := (v = 1 ∧ P) ∨ (v = 0 ∧ ¬ P)
theorem Is01.cg (h : Is01 v P) (e : P ↔ Q) : Is01 v Q := by
  rcases h with ⟨h1, h2⟩ | ⟨h1, h2⟩
  · exact Or.inl ⟨h1, e.mp h2⟩
  · exact Or.inr ⟨h1, fun z => h2 (e.mpr z)⟩
theorem Is01.uniq (h : Is01 v P) (k : Is01 w P) : v = w := by
  rcases h with ⟨h1, h2⟩ | ⟨h1, h2⟩ <;> rcases k with ⟨k1, k2⟩ | ⟨k1, k2⟩
  · rw [h1, k1]
  · exact absurd h2 k2
  · exact absurd k2 h2
  · rw [h1, k1]
theorem Is01.b01 (h : Is01 v P) : v = 0 ∨ v = 1 := by
  rcases h with ⟨h1, -⟩ | ⟨h1, -⟩
  · exact Or.inr h1
  · exact Or.inl h1
theorem Is01.yes (h : P) : Is01 1 P := Or.inl ⟨rfl, h⟩
theorem Is01.no (h : ¬ P) : Is01 0 P := Or.inr ⟨rfl, h⟩
/-- an answer that is turned to itself -/
theorem Is01.re (h : Is01 v P) : Ev (if v = 0 then some (0 : Int) else some 1) (fun w => Is01 w P) := by
  rcases h with ⟨h1, h2⟩ | ⟨h1, h2⟩
  · exact Ev.f (by omega) (Ev.r (Is01.yes h2))
  · exact Ev.g h1 (Ev.r (Is01.no h2))
def tgK (k : Nat) : Nat := if k = 1 then 11 else if k = 2 then 12 else if k = 3 then 16 else if k = 4 then 13 else if k = 5 then 15 else if k = 6 then 17 else if k = 7 then 19 else if k < 30 then 20 else 18
theorem LabC.tg (k : LabC σ q p) : mT σ q = tgK (pK p) := by
  rcases k with ⟨k1, k2⟩ | ⟨k1, -, -, k2⟩ | ⟨k1, k2, -⟩ | ⟨k1, k2⟩ | ⟨k1, -, k2, -⟩ | ⟨k1, -, -, k2, -⟩ | ⟨k1, k2⟩ | ⟨k1, j, kj, -, k2⟩ | ⟨k1, j, kj, -, -, k2⟩
  · rw [k1, k2]; rfl
  · rw [k1, k2]; rfl
  · rw [k1, k2]; rfl
  · rw [k1, k2]; rfl
  · rw [k1, k2]; rfl
  · rw [k1, k2]; rfl
  · rw [k1, k2]; rfl
  · rw [k1, k2]
    show 20 = tgK (10 + j)
    unfold tgK
    rw [if_neg (by omega), if_neg (by omega), if_neg (by omega), if_neg (by omega), if_neg (by omega), if_neg (by omega), if_neg (by omega), if_pos (by omega)]
  · have := nmk_rng j kj
    rw [k1, k2]
    show 18 = tgK (nmk j)
    unfold tgK
    rw [if_neg (by omega), if_neg (by omega), if_neg (by omega), if_neg (by omega), if_neg (by omega), if_neg (by omega), if_neg (by omega), if_neg (by omega)]
/-- bytes compared -/
theorem has_l {B A n : Nat} (t1 : mT σ B = 102) (t2 : mT σ q = 12) (eA : mR σ q 0 = A) (t3 : mT σ A = 102) (n1 : mN σ B = n) (n2 : mN σ A = n) (h4 : n ≤ 1000) {K : Int → Option Int} {Φ : Int → Prop} (hK : ∀ v, Is01 v (∀ i, i < n → mI σ B i = mI σ A i) → Ev (K v) Φ) : ∀ (m i f : Nat), i + m = n → m + 1 < f → (∀ j, j < i → mI σ B j = mI σ A j) → Ev (x14_has_l18 N σ q B K f 1 i) Φ := by
  intro m
  induction m with
  | zero =>
    intro i f h1 h2 h3
    obtain ⟨f, rfl⟩ : ∃ j, f = j + 1 := ⟨f - 1, by omega⟩
    unfold x14_has_l18
    rw [n1, w32_i (by omega) (by omega)]
    exact Ev.f (by decide) (Ev.g t1 (Ev.g (by omega) (hK 1 (Is01.yes (fun j hj => h3 j (by omega))))))
  | succ m ih =>
    intro i f h1 h2 h3
    obtain ⟨f, rfl⟩ : ∃ j, f = j + 1 := ⟨f - 1, by omega⟩
    unfold x14_has_l18
    rw [n1, w32_i (by omega) (by omega), eA, n2, tn]
    refine Ev.f (by decide) (Ev.g t1 (Ev.f (by omega) (Ev.g (by omega) (Ev.g t2 (Ev.g t3 (Ev.g (by omega) ?_))))))
    unfold x14_has_l18_j45
    rw [inc32 (by omega)]
    by_cases e : mI σ B i = mI σ A i
    · refine Ev.f (fun z => z e) (ih (i + 1) f (by omega) (by omega) (fun j hj => ?_))
      by_cases c : j = i
      · rw [c]; exact e
      · exact h3 j (by omega)
    · refine Ev.g e ?_
      obtain ⟨f, rfl⟩ : ∃ j, f = j + 1 := ⟨f - 1, by omega⟩
      unfold x14_has_l18
      exact Ev.g rfl (hK 0 (Is01.no (fun z => e (z i (by omega)))))
theorem c_has14 {B : Nat} (hN : 1100 ≤ N) (t1 : mT σ B = 102) (t2 : mT σ q = 12) (t3 : mT σ (mR σ q 0) = 102) (n1 : mN σ B ≤ 1000) (n2 : mN σ (mR σ q 0) ≤ 1000) : Ev (x14_has N q B σ) (fun v => Is01 v (lst (mN σ B) (mI σ B) = lst (mN σ (mR σ q 0)) (mI σ (mR σ q 0)))) := by
  unfold x14_has
  rw [w32_i (by omega) (by omega), w32_i (x := (mN σ (mR σ q 0) : Int)) (by omega) (by omega)]
  refine Ev.g t1 (Ev.g t2 (Ev.g t3 ?_))
  have nb : mN σ B ≠ mN σ (mR σ q 0) → lst (mN σ B) (mI σ B) ≠ lst (mN σ (mR σ q 0)) (mI σ (mR σ q 0)) := fun n e => n (by have := congrArg List.length e; rw [lst_len, lst_len] at this; exact this)
  by_cases e : mN σ B = mN σ (mR σ q 0)
  · refine Ev.f (fun z => z (by rw [e])) ?_
    unfold x14_has_j15
    refine has_l (A := mR σ q 0) (n := mN σ B) t1 t2 rfl t3 rfl e.symm n1 (fun v hv => Ev.g hv.b01 (Ev.r (hv.cg ?_))) (mN σ B) 0 N (by omega) (by omega) (fun j hj => by omega)
    rw [← e]
    constructor
    · intro z; exact lst_congr z
    · intro z i hi
      have := congrArg (fun l => gl l i) z
      (try dsimp only at this)
      rw [gl_lst hi, gl_lst hi] at this; exact this
  · refine Ev.g (fun z => e (by omega)) ?_
    unfold x14_has_j15
    obtain ⟨f, rfl⟩ : ∃ j, N = j + 1 := ⟨N - 1, by omega⟩
    unfold x14_has_l18
    exact Ev.g rfl (Ev.g (Or.inl rfl) (Ev.r (Is01.no (nb e))))
theorem cfx_iff {c d : Nat} (b1 : bz1 (mI σ c 2) ∧ bz1 (mI σ c 3)) (b2 : bz1 (mI σ d 2) ∧ bz1 (mI σ d 3)) : cfx σ c = cfx σ d ↔ mI σ c 2 = mI σ d 2 ∧ mI σ c 3 = mI σ d 3 := by
  unfold bz1 at b1 b2
  unfold cfx
  constructor
  · intro e
    split at e <;> split at e <;> split at e <;> split at e <;> omega
  · rintro ⟨e1, e2⟩
    rw [e1, e2]
theorem c_same16 {c d : Nat} (t1 : mT σ c = 14) (t2 : mT σ d = 14) (b1 : bz1 (mI σ c 2) ∧ bz1 (mI σ c 3)) (b2 : bz1 (mI σ d 2) ∧ bz1 (mI σ d 3)) : Ev (x16_same c d σ) (fun v => Is01 v (mI σ c 0 = mI σ d 0 ∧ mI σ c 1 = mI σ d 1 ∧ cfx σ c = cfx σ d)) := by
  unfold x16_same
  refine Ev.g t1 (Ev.g t2 ?_)
  rw [cfx_iff b1 b2]
  by_cases e0 : mI σ c 0 = mI σ d 0
  · refine Ev.f (fun z => z e0) ?_
    by_cases e1 : mI σ c 1 = mI σ d 1
    · refine Ev.f (fun z => z e1) ?_
      by_cases e2 : mI σ c 2 = mI σ d 2
      · refine Ev.f (fun z => z e2) ?_
        by_cases e3 : mI σ c 3 = mI σ d 3
        · exact Ev.f (fun z => z e3) (Ev.r (Is01.yes ⟨e0, e1, e2, e3⟩))
        · exact Ev.g e3 (Ev.r (Is01.no (fun z => e3 z.2.2.2)))
      · exact Ev.g e2 (Ev.r (Is01.no (fun z => e2 z.2.2.1)))
    · exact Ev.g e1 (Ev.r (Is01.no (fun z => e1 z.2.1)))
  · exact Ev.g e0 (Ev.r (Is01.no (fun z => e0 z.1)))
theorem one_ext {l m : List Fm} (h1 : l.length = 1) (h2 : m.length = 1) : l = m ↔ l[0]'(by omega) = m[0]'(by omega) := by
  match l, m, h1, h2 with
  | [y], [z], _, _ => exact ⟨fun e => by injection e, fun e => by show [y] = [z]; rw [show y = z from e]⟩
theorem two_ext {l m : List Fm} (h1 : l.length = 2) (h2 : m.length = 2) : l = m ↔ l[0]'(by omega) = m[0]'(by omega) ∧ l[1]'(by omega) = m[1]'(by omega) := by
  match l, m, h1, h2 with
  | [y, y'], [z, z'], _, _ =>
    constructor
    · intro e
      injection e with e1 e2
      injection e2 with e3 e4
      exact ⟨e1, e3⟩
    · rintro ⟨e1, e2⟩
      show [y, y'] = [z, z']
      rw [show y = z from e1, show y' = z' from e2]
theorem same0 {W : Nat → Nat → gMem → Option Int} {K : Int → Option Int} {i : Int} : ∀ n, 0 < n → x20_same_l47 N W σ q q' K n 0 i = K 0 := by
  intro n hn
  obtain ⟨f, rfl⟩ : ∃ j, n = j + 1 := ⟨n - 1, by omega⟩
  unfold x20_same_l47
  rw [if_pos rfl]
/-- the parts of two calls compared -/
theorem same_l {n m : Nat} {ls ls' : List Fm} {W : Nat → Nat → gMem → Option Int} (hW : ∀ i (hi : i < ls.length) (hi' : i < ls'.length), Ev (W (mR σ (mR σ q 1) i) (mR σ (mR σ q' 1) i) σ) (fun v => Is01 v (ls[i] = ls'[i]))) (t1 : mT σ q = 18) (t2 : mT σ (mR σ q 1) = 108) (t3 : mT σ q' = 18) (t4 : mT σ (mR σ q' 1) = 108) (n1 : mN σ (mR σ q 1) = ls.length) (n2 : mN σ (mR σ q' 1) = ls'.length) (h8 : ls.length ≤ 100) (el : ls.length = ls'.length) : ∀ (k i f : Nat), i + k = ls.length → k + 1 < f → (∀ j (h1 : j < i) (h2 : j < ls.length) (h3 : j < ls'.length), ls[j] = ls'[j]) → Ev (x20_same_l47 N W σ q q' (fun y => if y = 0 ∨ y = 1 then some y else none) f 1 i) (fun v => Is01 v (ls = ls')) := by
  intro k
  induction k with
  | zero =>
    intro i f h1 h2 h3
    obtain ⟨f, rfl⟩ : ∃ j, f = j + 1 := ⟨f - 1, by omega⟩
    unfold x20_same_l47
    rw [n1, w32_i (by omega) (by omega)]
    refine Ev.f (by decide) (Ev.g t1 (Ev.g t2 (Ev.g (by omega) (Ev.g (Or.inr rfl) (Ev.r (Is01.yes ?_))))))
    exact List.ext_getElem el (fun j h4 h5 => h3 j (by omega) h4 h5)
  | succ k ih =>
    intro i f h1 h2 h3
    obtain ⟨f, rfl⟩ : ∃ j, f = j + 1 := ⟨f - 1, by omega⟩
    unfold x20_same_l47
    rw [n1, w32_i (by omega) (by omega), n2, tn]
    refine Ev.f (by decide) (Ev.g t1 (Ev.g t2 (Ev.f (by omega) (Ev.g (by omega) (Ev.g t3 (Ev.g t4 (Ev.g (by omega) (Ev.c (hW i (by omega) (by omega)) (fun v _ hv => ?_)))))))))
    rw [inc32 (by omega)]
    rcases hv with ⟨e, hv⟩ | ⟨e, hv⟩
    · rw [e]
      refine ih (i + 1) f (by omega) (by omega) (fun j h4 h5 h6 => ?_)
      by_cases c : j = i
      · subst c; exact hv
      · exact h3 j (by omega) h5 h6
    · rw [e]
      obtain ⟨f, rfl⟩ : ∃ j, f = j + 1 := ⟨f - 1, by omega⟩
      unfold x20_same_l47
      refine Ev.g rfl (Ev.g (Or.inl rfl) (Ev.r (Is01.no (fun z => hv ?_))))
      have hi : i < ls.length := by omega
      have : ∀ (j : Nat) (h5 : j < ls.length) (h6 : j < ls'.length), ls[j] = ls'[j] := by
        intro j h5 h6; simp only [z]
      exact this i hi (by omega)
theorem mkO_inj {k k' n n' : Nat} : mkO k n = mkO k' n' ↔ k = k' ∧ n = n' := by
  constructor
  · intro e
    exact ⟨congrArg pK e, congrArg pA e⟩
  · rintro ⟨e1, e2⟩; rw [e1, e2]
/-- parts compared -/
theorem c_same (hN : 1100 ≤ N) (ks : KS σ) (kn : KN σ) : ∀ (n m q q' : Nat) (l l' : Fm), IsP σ n q l → IsP σ m q' l' → Ev (dp_Part_same N n q q' σ) (fun v => Is01 v (l = l')) := by
  intro n
  induction n with
  | zero => intro m q q' l l' k; exact k.elim
  | succ n ih =>
    intro m q q' l l' k k'
    have wf0 := k.wf
    have wf1 := k'.wf
    obtain ⟨p, ls, k1, k2, L, k4, k5, k6⟩ := k
    cases m with
    | zero => exact k'.elim
    | succ m =>
    obtain ⟨p', ls', j1, j2, L', j4, j5, j6⟩ := k'
    have wl : ∀ y ∈ ls, Wf n y := fun y hy => by
      obtain ⟨i, hi, e⟩ := List.getElem_of_mem hy
      rw [← e]; exact (k6 i hi).wf
    have wl' : ∀ y ∈ ls', Wf m y := fun y hy => by
      obtain ⟨i, hi, e⟩ := List.getElem_of_mem hy
      rw [← e]; exact (j6 i hi).wf
    have key : l = l' ↔ p = p' ∧ ls = ls' := by
      constructor
      · intro e
        rw [k1, j1] at e
        have := wf_uniq wl wl' e
        exact ⟨this.2, this.1⟩
      · rintro ⟨e1, e2⟩
        rw [k1, j1, e1, e2]
    have gn : gNode (mT σ q') = true := L'.kind.2.2.2
    have tg := L.tg
    have tg' := L'.tg
    have neq : mT σ q' ≠ mT σ q → ¬ l = l' := fun h e => h (by rw [tg, tg', (key.mp e).1])
    have leaf : pA p = 0 → (l = l' ↔ p = p') := by
      intro h0
      rw [key]
      constructor
      · exact fun e => e.1
      · intro e
        have a : ls.length = 0 := by omega
        have b : ls'.length = 0 := by rw [j2, ← e]; exact h0
        exact ⟨e, by rw [List.length_eq_zero_iff.mp a, List.length_eq_zero_iff.mp b]⟩
    show Ev ((dp_Part_same N (n + 1)) q q' σ) _
    unfold dp_Part_same
    have LL := L
    rcases L with ⟨t, e⟩ | ⟨t, tR, tB, e⟩ | ⟨t, e, kB⟩ | ⟨t, e⟩ | ⟨t, tC, e, kB⟩ | ⟨t, tC, tD, e, kB⟩ | ⟨t, e⟩ | ⟨t, j, hj, tS, e⟩ | ⟨t, j, hj, tS, tB, e⟩
    · -- a whole number
      refine Ev.g t ?_
      unfold x13_same
      refine Ev.g (Or.inr gn) ?_
      by_cases c : mT σ q' = 11
      · refine Ev.g c (Ev.g (Or.inr c) (Ev.g c (Ev.g t ?_)))
        have e' : p' = mkN (mL σ q' 0) := by
          rcases L' with ⟨t', e'⟩ | ⟨t', -⟩ | ⟨t', -⟩ | ⟨t', -⟩ | ⟨t', -⟩ | ⟨t', -⟩ | ⟨t', -⟩ | ⟨t', -⟩ | ⟨t', -⟩
          all_goals first | (exfalso; omega) | exact e'
        have fin : l = l' ↔ gcmp (mL σ q' 0) (mL σ q 0) = 0 := by
          rw [leaf (by rw [e]; rfl), gcmp_eq, e, e']
          exact ⟨fun z => (congrArg pV z).symm, fun z => by rw [z]⟩
        by_cases z : gcmp (mL σ q' 0) (mL σ q 0) = 0
        · exact Ev.f (fun y => y z) (Ev.r (Is01.yes (fin.mpr z)))
        · exact Ev.g z (Ev.r (Is01.no (fun y => z (fin.mp y))))
      · exact Ev.f c (Ev.r (Is01.no (neq (by omega))))
    · -- words
      refine Ev.f (by omega) (Ev.g t ?_)
      unfold x14_same
      refine Ev.g (Or.inr gn) ?_
      by_cases c : mT σ q' = 12
      · have h' : mR σ q' 0 = q' + 1 ∧ mT σ (q' + 1) = 102 ∧ p' = mkT (lst (mN σ (q' + 1)) (mI σ (q' + 1))) := by
          rcases L' with ⟨t', -⟩ | ⟨t', e'⟩ | ⟨t', -⟩ | ⟨t', -⟩ | ⟨t', -⟩ | ⟨t', -⟩ | ⟨t', -⟩ | ⟨t', -⟩ | ⟨t', -⟩
          all_goals first | (exfalso; omega) | exact e'
        obtain ⟨tR', tB', e'⟩ := h'
        have lt : ∀ {y : Nat} {z : Pt}, PtOk z → z = mkT (lst (mN σ y) (mI σ y)) → mN σ y ≤ 24 := by
          intro y z O ez
          have k2' : pK z = 2 := by rw [ez]; rfl
          have x2 : pX z = lst (mN σ y) (mI σ y) := by rw [ez]; rfl
          rcases O with ⟨_, hp, -⟩ | ⟨u, hp, u1, -⟩ | ⟨_, hp⟩ | hp | ⟨_, _, _, _, hp, -⟩ | ⟨_, _, _, _, _, _, hp, -⟩ | ⟨k, _, hp, hk⟩
          · rw [hp] at k2'; cases k2'
          · rw [hp] at x2
            have x3 : u = lst (mN σ y) (mI σ y) := x2
            rw [x3, lst_len] at u1; exact u1
          · rw [hp] at k2'; cases k2'
          · rw [hp] at k2'; cases k2'
          · rw [hp] at k2'; cases k2'
          · rw [hp] at k2'; cases k2'
          · rw [hp] at k2'; have : k = 2 := k2'; omega
        have l1 := lt k4 e
        have l2 := lt j4 e'
        refine Ev.g c (Ev.g (Or.inr c) (Ev.g c (Ev.g t ?_)))
        rw [tR']
        refine Ev.c (c_has14 hN tB' t (by rw [tR]; exact tB) (by omega) (by rw [tR]; omega)) (fun v _ hv => (hv.cg ?_).re)
        rw [leaf (by rw [e]; rfl), e, e', tR]
        exact ⟨fun z => by rw [z], fun z => (congrArg pX z).symm⟩
      · exact Ev.f c (Ev.r (Is01.no (neq (by omega))))
    · -- a truth
      refine Ev.f (by omega) (Ev.f (by omega) (Ev.g t ?_))
      unfold x18_same
      refine Ev.g (Or.inr gn) ?_
      by_cases c : mT σ q' = 16
      · refine Ev.g c (Ev.g (Or.inr c) (Ev.g c (Ev.g t ?_)))
        have h' : p' = mkB (decide (mI σ q' 0 ≠ 0)) ∧ bz1 (mI σ q' 0) := by
          rcases L' with ⟨t', -⟩ | ⟨t', -⟩ | ⟨t', e'⟩ | ⟨t', -⟩ | ⟨t', -⟩ | ⟨t', -⟩ | ⟨t', -⟩ | ⟨t', -⟩ | ⟨t', -⟩
          all_goals first | (exfalso; omega) | exact e'
        obtain ⟨e', kB'⟩ := h'
        have fin : l = l' ↔ mI σ q' 0 = mI σ q 0 := by
          rw [leaf (by rw [e]; rfl), e, e']
          constructor
          · intro z
            have z2 : (if (decide (mI σ q 0 ≠ 0)) = true then (1 : Int) else 0) = (if (decide (mI σ q' 0 ≠ 0)) = true then (1 : Int) else 0) := congrArg pV z
            unfold bz1 at kB kB'
            simp only [decide_eq_true_eq] at z2
            split at z2 <;> split at z2 <;> omega
          · intro z; rw [z]
        by_cases z : mI σ q' 0 = mI σ q 0
        · exact Ev.f (fun y => y z) (Ev.r (Is01.yes (fin.mpr z)))
        · exact Ev.g z (Ev.r (Is01.no (fun y => z (fin.mp y))))
      · exact Ev.f c (Ev.r (Is01.no (neq (by omega))))
    · -- what is gone
      refine Ev.f (by omega) (Ev.f (by omega) (Ev.f (by omega) (Ev.g t ?_)))
      unfold x15_same
      refine Ev.g (Or.inr gn) ?_
      by_cases c : mT σ q' = 13
      · have e' : p' = mkR := by
          rcases L' with ⟨t', -⟩ | ⟨t', -⟩ | ⟨t', -⟩ | ⟨t', e'⟩ | ⟨t', -⟩ | ⟨t', -⟩ | ⟨t', -⟩ | ⟨t', -⟩ | ⟨t', -⟩
          all_goals first | (exfalso; omega) | exact e'
        exact Ev.g c (Ev.r (Is01.yes ((leaf (by rw [e]; rfl)).mpr (by rw [e, e']))))
      · exact Ev.f c (Ev.r (Is01.no (neq (by omega))))
    · -- a place
      refine Ev.f (by omega) (Ev.f (by omega) (Ev.f (by omega) (Ev.f (by omega) (Ev.g t ?_))))
      unfold x17_same
      refine Ev.g (Or.inr gn) ?_
      by_cases c : mT σ q' = 15
      · have h' : mT σ (mR σ q' 0) = 14 ∧ p' = mkS (mI σ (mR σ q' 0) 0) (mI σ (mR σ q' 0) 1) (cfx σ (mR σ q' 0)) (mI σ q' 1) ∧ bz1 (mI σ (mR σ q' 0) 2) ∧ bz1 (mI σ (mR σ q' 0) 3) := by
          rcases L' with ⟨t', -⟩ | ⟨t', -⟩ | ⟨t', -⟩ | ⟨t', -⟩ | ⟨t', e'⟩ | ⟨t', -⟩ | ⟨t', -⟩ | ⟨t', -⟩ | ⟨t', -⟩
          all_goals first | (exfalso; omega) | exact e'
        obtain ⟨tC', e', kB'⟩ := h'
        have fin : l = l' ↔ mI σ q' 1 = mI σ q 1 ∧ mI σ (mR σ q 0) 0 = mI σ (mR σ q' 0) 0 ∧ mI σ (mR σ q 0) 1 = mI σ (mR σ q' 0) 1 ∧ cfx σ (mR σ q 0) = cfx σ (mR σ q' 0) := by
          rw [leaf (by rw [e]; rfl), e, e']
          constructor
          · intro z
            exact ⟨(congrArg pW z).symm, congrArg pR1 z, congrArg pC1 z, congrArg pF z⟩
          · rintro ⟨z1, z2, z3, z4⟩
            rw [z1, z2, z3, z4]
        refine Ev.g c (Ev.g (Or.inr c) (Ev.g c (Ev.g t ?_)))
        by_cases z : mI σ q' 1 = mI σ q 1
        · refine Ev.f (fun y => y z) (Ev.g (Or.inr c) (Ev.g tC (Ev.c (c_same16 tC tC' kB kB') (fun v _ hv => (hv.cg ?_).re))))
          rw [fin]
          exact ⟨fun y => ⟨z, y⟩, fun y => y.2⟩
        · exact Ev.g z (Ev.r (Is01.no (fun y => z (fin.mp y).1)))
      · exact Ev.f c (Ev.r (Is01.no (neq (by omega))))
    · -- an area
      refine Ev.f (by omega) (Ev.f (by omega) (Ev.f (by omega) (Ev.f (by omega) (Ev.f (by omega) (Ev.g t ?_)))))
      unfold x19_same
      refine Ev.g (Or.inr gn) ?_
      by_cases c : mT σ q' = 17
      · have h' : mT σ (mR σ q' 0) = 14 ∧ mT σ (mR σ q' 1) = 14 ∧ p' = mkA (mI σ (mR σ q' 0) 0) (mI σ (mR σ q' 0) 1) (mI σ (mR σ q' 1) 0) (mI σ (mR σ q' 1) 1) (cfx σ (mR σ q' 0) + 4 * cfx σ (mR σ q' 1)) (mI σ q' 2) ∧ (bz1 (mI σ (mR σ q' 0) 2) ∧ bz1 (mI σ (mR σ q' 0) 3)) ∧ bz1 (mI σ (mR σ q' 1) 2) ∧ bz1 (mI σ (mR σ q' 1) 3) := by
          rcases L' with ⟨t', -⟩ | ⟨t', -⟩ | ⟨t', -⟩ | ⟨t', -⟩ | ⟨t', -⟩ | ⟨t', e'⟩ | ⟨t', -⟩ | ⟨t', -⟩ | ⟨t', -⟩
          all_goals first | (exfalso; omega) | exact e'
        obtain ⟨tC', tD', e', kB'⟩ := h'
        have cb : ∀ y, cfx σ y < 4 := fun y => by unfold cfx; split <;> split <;> omega
        have fin : l = l' ↔ mI σ q' 2 = mI σ q 2 ∧ (mI σ (mR σ q 0) 0 = mI σ (mR σ q' 0) 0 ∧ mI σ (mR σ q 0) 1 = mI σ (mR σ q' 0) 1 ∧ cfx σ (mR σ q 0) = cfx σ (mR σ q' 0)) ∧ mI σ (mR σ q 1) 0 = mI σ (mR σ q' 1) 0 ∧ mI σ (mR σ q 1) 1 = mI σ (mR σ q' 1) 1 ∧ cfx σ (mR σ q 1) = cfx σ (mR σ q' 1) := by
          rw [leaf (by rw [e]; rfl), e, e']
          constructor
          · intro z
            have zf : cfx σ (mR σ q 0) + 4 * cfx σ (mR σ q 1) = cfx σ (mR σ q' 0) + 4 * cfx σ (mR σ q' 1) := congrArg pF z
            have := cb (mR σ q 0); have := cb (mR σ q' 0)
            exact ⟨(congrArg pW z).symm, ⟨congrArg pR1 z, congrArg pC1 z, by omega⟩, congrArg pR2 z, congrArg pC2 z, by omega⟩
          · rintro ⟨z1, ⟨z2, z3, z4⟩, z5, z6, z7⟩
            rw [z1, z2, z3, z4, z5, z6, z7]
        refine Ev.g c (Ev.g (Or.inr c) (Ev.g c (Ev.g t ?_)))
        by_cases z : mI σ q' 2 = mI σ q 2
        · refine Ev.f (fun y => y z) (Ev.g tC (Ev.c (c_same16 tC tC' kB.1 kB'.1) (fun v _ hv => ?_)))
          rcases hv with ⟨ev, hv⟩ | ⟨ev, hv⟩
          · refine Ev.f (by omega) (Ev.g tD (Ev.c (c_same16 tD tD' kB.2 kB'.2) (fun v _ hv2 => (hv2.cg ?_).re)))
            rw [fin]
            exact ⟨fun y => ⟨z, hv, y⟩, fun y => y.2.2⟩
          · exact Ev.g ev (Ev.r (Is01.no (fun y => hv (fin.mp y).2.1)))
        · exact Ev.g z (Ev.r (Is01.no (fun y => z (fin.mp y).1)))
      · exact Ev.f c (Ev.r (Is01.no (neq (by omega))))
    · -- a minus
      refine Ev.f (by omega) (Ev.f (by omega) (Ev.f (by omega) (Ev.f (by omega) (Ev.f (by omega) (Ev.f (by omega) (Ev.g t ?_))))))
      unfold x21_same
      refine Ev.g (Or.inr gn) ?_
      by_cases c : mT σ q' = 19
      · have e' := L'.k7 c
        have h1 : ls.length = 1 := by rw [k2, e]; rfl
        have h2 : ls'.length = 1 := by rw [j2, e']; rfl
        have c0 : chd σ q 0 = mR σ q 0 := by unfold chd; rw [if_pos t]
        have c0' : chd σ q' 0 = mR σ q' 0 := by unfold chd; rw [if_pos c]
        have a := k6 0 (by omega)
        have b := j6 0 (by omega)
        rw [c0] at a
        rw [c0'] at b
        refine Ev.g c (Ev.g t (Ev.g (Or.inr c) (Ev.g c (Ev.c (ih _ _ _ _ _ a b) (fun v _ hv => (hv.cg ?_).re)))))
        rw [key, one_ext h1 h2]
        exact ⟨fun z => ⟨by rw [e, e'], z⟩, fun z => z.2⟩
      · exact Ev.f c (Ev.r (Is01.no (neq (by omega))))
    · -- a sign of two
      refine Ev.f (by omega) (Ev.f (by omega) (Ev.f (by omega) (Ev.f (by omega) (Ev.f (by omega) (Ev.f (by omega) (Ev.f (by omega) (Ev.g t ?_)))))))
      unfold x22_same
      refine Ev.g (Or.inr gn) ?_
      by_cases c : mT σ q' = 20
      · obtain ⟨j', hj', tS', e'⟩ := L'.k2 c
        have h1 : ls.length = 2 := by rw [k2, e]; rfl
        have h2 : ls'.length = 2 := by rw [j2, e']; rfl
        have cq : ∀ i, chd σ q i = mR σ q (1 + i) := fun i => by unfold chd; rw [if_neg (by omega), if_pos t]
        have cq' : ∀ i, chd σ q' i = mR σ q' (1 + i) := fun i => by unfold chd; rw [if_neg (by omega), if_pos c]
        have a0 := k6 0 (by omega)
        have a1 := k6 1 (by omega)
        have b0 := j6 0 (by omega)
        have b1 := j6 1 (by omega)
        rw [cq] at a0 a1
        rw [cq'] at b0 b1
        have fin : l = l' ↔ j = j' ∧ ls[0]'(by omega) = ls'[0]'(by omega) ∧ ls[1]'(by omega) = ls'[1]'(by omega) := by
          have ep : p = p' ↔ j = j' := by
            rw [e, e', mkO_inj]
            exact ⟨fun z => by omega, fun z => ⟨by omega, rfl⟩⟩
          rw [key, two_ext h1 h2, ep]
        refine Ev.g c (Ev.g (Or.inr c) (Ev.g c (Ev.g t ?_)))
        rw [tS, tS']
        by_cases z : j = j'
        · refine Ev.f (fun y => y (by rw [z])) (Ev.c (ih _ _ _ _ _ a0 b0) (fun v _ hv => ?_))
          rcases hv with ⟨ev, hv⟩ | ⟨ev, hv⟩
          · refine Ev.f (by omega) (Ev.c (ih _ _ _ _ _ a1 b1) (fun v _ hv2 => (hv2.cg ?_).re))
            rw [fin]
            exact ⟨fun y => ⟨z, hv, y⟩, fun y => y.2.2⟩
          · exact Ev.g ev (Ev.r (Is01.no (fun y => hv (fin.mp y).2.1)))
        · exact Ev.g (ks.ne hj' hj (fun y => z y.symm)) (Ev.r (Is01.no (fun y => z (fin.mp y).1)))
      · exact Ev.f c (Ev.r (Is01.no (neq (by omega))))
    · -- a call
      refine Ev.f (by omega) (Ev.f (by omega) (Ev.f (by omega) (Ev.f (by omega) (Ev.f (by omega) (Ev.f (by omega) (Ev.f (by omega) (Ev.f (by omega) (Ev.g t ?_))))))))
      unfold x20_same
      refine Ev.g (Or.inr gn) ?_
      by_cases c : mT σ q' = 18
      · obtain ⟨j', hj', tS', tB', e'⟩ := L'.kC c
        have h1 : ls.length = mN σ (mR σ q 1) := by rw [k2, e]; rfl
        have h2 : ls'.length = mN σ (mR σ q' 1) := by rw [j2, e']; rfl
        have h8 : ∀ {y : Pt} {zs : List Pt}, argsOk y zs → 30 ≤ pK y → pA y ≤ 8 := by
          intro y zs A hk
          unfold argsOk at A
          rw [if_neg (by omega), if_neg (by omega), if_neg (by omega)] at A
          have := A.2.1
          unfold mostA leastA at this
          split at this
          · omega
          · split at this
            · omega
            · split at this <;> omega
        have r0 := nmk_rng j hj
        have r0' := nmk_rng j' hj'
        have m1 : ls.length ≤ 8 := by rw [k2]; exact h8 k5 (by rw [e]; exact r0.1)
        have m2 : ls'.length ≤ 8 := by rw [j2]; exact h8 j5 (by rw [e']; exact r0'.1)
        have cq : ∀ i, chd σ q i = mR σ (mR σ q 1) i := fun i => by unfold chd; rw [if_neg (by omega), if_neg (by omega)]
        have cq' : ∀ i, chd σ q' i = mR σ (mR σ q' 1) i := fun i => by unfold chd; rw [if_neg (by omega), if_neg (by omega)]
        have nmi : nmk j = nmk j' ↔ j = j' := by
          constructor
          · have D : ∀ y, y < 18 → ∀ z, z < 18 → nmk y = nmk z → y = z := by decide
            exact D j hj j' hj'
          · intro z; rw [z]
        have fin : l = l' ↔ j = j' ∧ ls = ls' := by
          rw [key, e, e', mkO_inj, nmi]
          constructor
          · rintro ⟨⟨z1, -⟩, z2⟩; exact ⟨z1, z2⟩
          · rintro ⟨z1, z2⟩; exact ⟨⟨z1, by rw [← h1, ← h2, z2]⟩, z2⟩
        have J42 : ¬ l = l' → Ev (x20_same_j42 N (dp_Part_same N n) σ q q') (fun v => Is01 v (l = l')) := by
          intro ne
          unfold x20_same_j42 x20_same_j43
          rw [same0 N (by omega), if_pos (Or.inl rfl)]
          exact Ev.r (Is01.no ne)
        refine Ev.g c (Ev.g (Or.inr c) (Ev.g c (Ev.g t ?_)))
        rw [tS, tS']
        by_cases z : j = j'
        · refine Ev.f (fun y => y (by rw [z])) (Ev.g tB' (Ev.g tB ?_))
          rw [← h1, ← h2, w32_i (by omega) (by omega), w32_i (x := (ls.length : Int)) (by omega) (by omega)]
          by_cases y : ls.length = ls'.length
          · refine Ev.f (fun u => u (by rw [y])) ?_
            unfold x20_same_j43
            refine (same_l (n := n) (m := m) (ls := ls) (ls' := ls') (fun i hi hi' => ?_) t tB c tB' h1.symm h2.symm (by omega) y ls.length 0 N (by omega) (by omega) (fun j h1 => by omega)).m (fun v hv => hv.cg ?_)
            · have a := k6 i hi
              have b := j6 i hi'
              rw [cq] at a
              rw [cq'] at b
              exact ih _ _ _ _ _ a b
            · rw [fin]
              exact ⟨fun u => ⟨z, u⟩, fun u => u.2⟩
          · exact Ev.g (fun u => y (by omega)) (J42 (fun u => y (by rw [(fin.mp u).2])))
        · exact Ev.g (kn.ne hj' hj (fun y => z y.symm)) (J42 (fun y => z (fin.mp y).1))
      · exact Ev.f c (Ev.r (Is01.no (neq (by omega))))
/-- contents compared by the class -/
theorem c_alikeC (hN : 1100 ≤ N) (kc : KC σ) (z0 : mT σ 0 = 0) (k : CtC σ a ct) (k' : CtC σ b ct') : Ev (x1_isAlike N a b σ) (fun v => Is01 v (ct = ct')) := by
  have J8 : ∀ {P : Prop}, (a = 0 ∨ b = 0) → (a = b ↔ P) → Ev (x1_isAlike_j8 N σ a b) (fun v => Is01 v P) := by
    intro P _ e
    unfold x1_isAlike_j8
    by_cases c : a = b
    · exact Ev.f (fun z => z c) (Ev.r (Is01.yes (e.mp c)))
    · exact Ev.g c (Ev.r (Is01.no (fun z => c (e.mpr z))))
  have na := k.nul z0
  have nb := k'.nul z0
  unfold x1_isAlike
  by_cases a0 : a = 0
  · refine Ev.g a0 (J8 (Or.inl a0) ?_)
    have ea := na.mp a0
    constructor
    · intro e; rw [ea, nb.mp (by rw [← e]; exact a0)]
    · intro e; rw [a0, nb.mpr (by rw [← e]; exact ea)]
  · refine Ev.f a0 ?_
    by_cases b0 : b = 0
    · refine Ev.f (fun z => z b0) (J8 (Or.inr b0) ?_)
      have eb := nb.mp b0
      constructor
      · intro e; exact absurd (by rw [e]; exact b0) a0
      · intro e; exact absurd (na.mpr (by rw [e]; exact eb)) a0
    · have gb : gNode (mT σ b) = true := k'.node.resolve_left b0
      -- kinds told apart by tags
      have kt : ∀ {y : Nat} {c : Ct}, y ≠ 0 → CtC σ y c → (mT σ y = 11 ↔ c.1.1 = 1) ∧ (mT σ y = 12 ↔ c.1.1 = 2) ∧ (mT σ y = 16 ↔ c.1.1 = 3) ∧ (mT σ y = 21 ↔ c.1.1 = 0) := by
        intro y c y0 h
        rcases h with h | h | h | h | h
        · exact absurd h.1 y0
        · have e : c.1.1 = 1 := by rw [h.2.1]
          rw [e, h.1]; decide
        · have e : c.1.1 = 2 := by rw [h.2.2.2.1]; rfl
          rw [e, h.1]; decide
        · have e : c.1.1 = 3 := by rw [h.2.1]; rfl
          rw [e, h.1]; decide
        · have e : c.1.1 = 0 := by rw [h.2.1]; rfl
          rw [e, h.1]; decide
      have ka := kt a0 k
      have kb := kt b0 k'
      have W : Ev (dp_Content_isAlike N a b σ) (fun v => Is01 v (ct = ct')) := by
        unfold dp_Content_isAlike
        rcases k with k | ⟨t, e, -⟩ | ⟨t, tR, tB, e, l24, -⟩ | ⟨t, e, kB⟩ | ⟨t, e, e2, e3, e4, -⟩
        · exact absurd k.1 a0
        · refine Ev.g t ?_
          unfold x13_isAlike
          refine Ev.g (Or.inr gb) ?_
          by_cases c : mT σ b = 11
          · refine Ev.g c (Ev.g (Or.inr c) (Ev.g c (Ev.g t ?_)))
            have e' : ct' = ((1, (mL σ b 0, [])), []) := by
              rcases k' with h | h | h | h | h
              · exact absurd h.1 b0
              · exact h.2.1
              · exact absurd h.1 (by omega)
              · exact absurd h.1 (by omega)
              · exact absurd h.1 (by omega)
            have fin : ct = ct' ↔ gcmp (mL σ b 0) (mL σ a 0) = 0 := by
              rw [gcmp_eq, e, e']
              exact ⟨fun z => (congrArg (fun c : Ct => c.1.2.1) z).symm, fun z => by rw [z]⟩
            by_cases z : gcmp (mL σ b 0) (mL σ a 0) = 0
            · exact Ev.f (fun y => y z) (Ev.r (Is01.yes (fin.mpr z)))
            · exact Ev.g z (Ev.r (Is01.no (fun y => z (fin.mp y))))
          · exact Ev.f c (Ev.r (Is01.no (fun z => c (kb.1.mpr (by rw [← z]; exact ka.1.mp t)))))
        · refine Ev.f (by omega) (Ev.g t ?_)
          unfold x14_isAlike
          refine Ev.g (Or.inr gb) ?_
          by_cases c : mT σ b = 12
          · have h' : mR σ b 0 = b + 1 ∧ mT σ (b + 1) = 102 ∧ ct' = (vTx (lst (mN σ (b + 1)) (mI σ (b + 1))), []) ∧ mN σ (b + 1) ≤ 24 := by
              rcases k' with h | h | h | h | h
              · exact absurd h.1 b0
              · exact absurd h.1 (by omega)
              · exact ⟨h.2.1, h.2.2.1, h.2.2.2.1, h.2.2.2.2.1⟩
              · exact absurd h.1 (by omega)
              · exact absurd h.1 (by omega)
            obtain ⟨tR', tB', e', l24'⟩ := h'
            refine Ev.g c (Ev.g (Or.inr c) (Ev.g c (Ev.g t ?_)))
            rw [tR']
            refine Ev.c (c_has14 hN tB' t (by rw [tR]; exact tB) (by omega) (by rw [tR]; omega)) (fun v _ hv => (hv.cg ?_).re)
            rw [e, e', tR]
            exact ⟨fun z => by rw [z], fun z => (congrArg (fun c : Ct => c.1.2.2) z).symm⟩
          · exact Ev.f c (Ev.r (Is01.no (fun z => c (kb.2.1.mpr (by rw [← z]; exact ka.2.1.mp t)))))
        · refine Ev.f (by omega) (Ev.f (by omega) (Ev.g t ?_))
          unfold x18_isAlike
          refine Ev.g (Or.inr gb) ?_
          by_cases c : mT σ b = 16
          · refine Ev.g c (Ev.g (Or.inr c) (Ev.g c (Ev.g t ?_)))
            have h' : ct' = (vIs (decide (mI σ b 0 ≠ 0)), []) ∧ bz1 (mI σ b 0) := by
              rcases k' with h | h | h | h | h
              · exact absurd h.1 b0
              · exact absurd h.1 (by omega)
              · exact absurd h.1 (by omega)
              · exact h.2
              · exact absurd h.1 (by omega)
            obtain ⟨e', kB'⟩ := h'
            have fin : ct = ct' ↔ mI σ b 0 = mI σ a 0 := by
              rw [e, e']
              constructor
              · intro z
                have z2 := congrArg (fun c : Ct => c.1.2.1) z
                (try dsimp only at z2)
                unfold vIs at z2
                unfold bz1 at kB kB'
                simp only [decide_eq_true_eq] at z2
                split at z2 <;> split at z2 <;> omega
              · intro z; rw [z]
            by_cases z : mI σ b 0 = mI σ a 0
            · exact Ev.f (fun y => y z) (Ev.r (Is01.yes (fin.mpr z)))
            · exact Ev.g z (Ev.r (Is01.no (fun y => z (fin.mp y))))
          · exact Ev.f c (Ev.r (Is01.no (fun z => c (kb.2.2.1.mpr (by rw [← z]; exact ka.2.2.1.mp t)))))
        · refine Ev.f (by omega) (Ev.f (by omega) (Ev.f (by omega) (Ev.g t ?_)))
          unfold x23_isAlike
          refine Ev.g (Or.inr gb) ?_
          by_cases c : mT σ b = 21
          · have h' : ct'.1 = vE ∧ IsP σ 60 (mR σ b 0) ct'.2 := by
              rcases k' with h | h | h | h | h
              · exact absurd h.1 b0
              · exact absurd h.1 (by omega)
              · exact absurd h.1 (by omega)
              · exact absurd h.1 (by omega)
              · exact ⟨h.2.1, h.2.2.2.2.1⟩
            have S := c_same (N := N) hN kc.ks kc.kn 64 60 _ _ _ _ (IsP.mono _ _ _ _ e4 (by decide)) h'.2
            refine Ev.g c (Ev.g t (Ev.g (Or.inr c) (Ev.g c (Ev.c S (fun v _ hv => (hv.cg ?_).re)))))
            constructor
            · intro z; exact Prod.ext (by rw [e, h'.1]) z
            · intro z; rw [z]
          · exact Ev.f c (Ev.r (Is01.no (fun z => c (kb.2.2.2.mpr (by rw [← z]; exact ka.2.2.2.mp t)))))
      refine Ev.g b0 (Ev.c W (fun v _ hv => Ev.g hv.b01 (Ev.r hv)))
end Alike1
