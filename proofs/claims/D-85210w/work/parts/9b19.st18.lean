/-! ===== PHASE 2: contents that are alike: the twin ===== -/
section Alike2
variable {N h nv a b : Nat} {τ : gMem} {p p' : Pt} {l l' : Fm} {c c' v w : Int} {ct ct' : Ct}
theorem letters_l {A B n : Nat} (hA : A + n ≤ 82400) (hB : B + n ≤ 82400) : ∀ (m i f : Nat), i + m = n → m < f → (∀ j, j < i → mI τ (h + 9) (A + j) = mI τ (h + 9) (B + j)) → Ev (tw_sameLetters_l3 N h τ A B n (some 1) f i) (fun v => Is01 v (∀ j, j < n → mI τ (h + 9) (A + j) = mI τ (h + 9) (B + j))) := by
  intro m
  induction m with
  | zero =>
    intro i f h1 h2 h3
    obtain ⟨f, rfl⟩ : ∃ j, f = j + 1 := ⟨f - 1, by omega⟩
    unfold tw_sameLetters_l3
    exact Ev.g (by omega) (Ev.r (Is01.yes (fun j hj => h3 j (by omega))))
  | succ m ih =>
    intro i f h1 h2 h3
    obtain ⟨f, rfl⟩ : ∃ j, f = j + 1 := ⟨f - 1, by omega⟩
    unfold tw_sameLetters_l3
    rw [show ((A : Int) + (i : Int)).toNat = A + i by omega, show ((B : Int) + (i : Int)).toNat = B + i by omega, inc32 (by omega)]
    refine Ev.f (by omega) (Ev.g (by omega) (Ev.g (by omega) ?_))
    by_cases e : mI τ (h + 9) (A + i) = mI τ (h + 9) (B + i)
    · refine Ev.g e (ih (i + 1) f (by omega) (by omega) (fun j hj => ?_))
      by_cases c : j = i
      · rw [c]; exact e
      · exact h3 j (by omega)
    · exact Ev.f e (Ev.r (Is01.no (fun z => e (z i (by omega)))))
theorem t_letters {A B : Nat} {s t : List Int} (hN : 500 ≤ N) (e : s.length = t.length) (h4 : s.length ≤ 400) (hA : A + s.length ≤ 82400) (hB : B + t.length ≤ 82400) (kA : ∀ i, i < s.length → mI τ (h + 9) (A + i) = gl s i) (kB : ∀ i, i < t.length → mI τ (h + 9) (B + i) = gl t i) : Ev (tw_sameLetters N h A B (s.length : Nat) τ) (fun v => Is01 v (s = t)) := by
  unfold tw_sameLetters
  refine (letters_l (A := A) (B := B) (n := s.length) hA (by omega) s.length 0 N (by omega) (by omega) (fun j hj => by omega)).m (fun v hv => hv.cg ?_)
  constructor
  · intro z
    exact gl_ext e (fun i hi => by rw [← kA i hi, ← kB i (by omega)]; exact z i hi)
  · intro z j hj
    rw [kA j hj, kB j (by omega), z]
theorem Pt.ext : p = p' ↔ pK p = pK p' ∧ pA p = pA p' ∧ pV p = pV p' ∧ pX p = pX p' ∧ pR1 p = pR1 p' ∧ pC1 p = pC1 p' ∧ pR2 p = pR2 p' ∧ pC2 p = pC2 p' ∧ pF p = pF p' ∧ pW p = pW p' := by
  constructor
  · intro e; rw [e]; exact ⟨rfl, rfl, rfl, rfl, rfl, rfl, rfl, rfl, rfl, rfl⟩
  · rintro ⟨e1, e2, e3, e4, e5, e6, e7, e8, e9, e10⟩
    show ((pK p, (pA p, (pV p, (pX p, ((pR1 p, (pC1 p, (pR2 p, pC2 p))), (pF p, pW p)))))) : Pt) = (pK p', (pA p', (pV p', (pX p', ((pR1 p', (pC1 p', (pR2 p', pC2 p'))), (pF p', pW p'))))))
    rw [e1, e2, e3, e4, e5, e6, e7, e8, e9, e10]
/-- one place means one part -/
theorem LabT.uniq (L : LabT τ h a p) (L' : LabT τ h a p') (f : pF p < 16) (f' : pF p' < 16) : p = p' := by
  obtain ⟨l1, l2, l3, l4, ⟨a1, l5, l6, l7⟩, l8, l9, l10, l11, l12, l13, l14⟩ := L
  obtain ⟨m1, m2, m3, m4, ⟨a2, m5, m6, m7⟩, m8, m9, m10, m11, m12, m13, m14⟩ := L'
  have ea : a1 = a2 := by omega
  subst ea
  have en : (pX p).length = (pX p').length := by omega
  exact Pt.ext.mpr ⟨by omega, by omega, by omega, gl_ext en (fun i hi => by rw [← l7 i hi, ← m7 i (by omega)]), by omega, by omega, by omega, by omega, by omega, by omega⟩
/-- two parts compared -/
theorem t_sameParts (hN : 500 ≤ N) (L : LabT τ h a p) (L' : LabT τ h b p') (f : pF p < 16) (f' : pF p' < 16) (x24 : (pX p).length ≤ 400) : Ev (tw_sameParts N h a b τ) (fun v => Is01 v (p = p' ∧ mI τ (h + 24) a = mI τ (h + 24) b)) := by
  obtain ⟨l1, l2, l3, l4, ⟨a1, l5, l6, l7⟩, l8, l9, l10, l11, l12, l13, l14⟩ := L
  obtain ⟨m1, m2, m3, m4, ⟨a2, m5, m6, m7⟩, m8, m9, m10, m11, m12, m13, m14⟩ := L'
  have ex := Pt.ext (p := p) (p' := p')
  have n175 : tw_sameParts_j175 N h τ a b = some 0 := by unfold tw_sameParts_j175 tw_sameParts_j176; rw [if_pos rfl]
  have n135 : tw_sameParts_j135 N h τ a b = some 0 := by unfold tw_sameParts_j135 tw_sameParts_j136; rw [if_pos rfl]; exact n175
  have n65 : tw_sameParts_j65 N h τ a b = some 0 := by unfold tw_sameParts_j65 tw_sameParts_j66; rw [if_pos rfl]; exact n135
  have ga : 0 ≤ (a : Int) ∧ (a : Int) < ((60420 : Nat) : Int) := by omega
  have gb : 0 ≤ (b : Int) ∧ (b : Int) < ((60420 : Nat) : Int) := by omega
  have F65 : ¬ (p = p' ∧ mI τ (h + 24) a = mI τ (h + 24) b) → Ev (tw_sameParts_j65 N h τ a b) (fun v => Is01 v (p = p' ∧ mI τ (h + 24) a = mI τ (h + 24) b)) := fun z => ⟨0, n65, Is01.no z⟩
  have F135 : ¬ (p = p' ∧ mI τ (h + 24) a = mI τ (h + 24) b) → Ev (tw_sameParts_j135 N h τ a b) (fun v => Is01 v (p = p' ∧ mI τ (h + 24) a = mI τ (h + 24) b)) := fun z => ⟨0, n135, Is01.no z⟩
  have F175 : ¬ (p = p' ∧ mI τ (h + 24) a = mI τ (h + 24) b) → Ev (tw_sameParts_j175 N h τ a b) (fun v => Is01 v (p = p' ∧ mI τ (h + 24) a = mI τ (h + 24) b)) := fun z => ⟨0, n175, Is01.no z⟩
  unfold tw_sameParts
  rw [tn, tn, l2, m2, l3, m3, l4, m4, l8, m8]
  refine Ev.g ga (Ev.g gb ?_)
  by_cases e1 : pK p = pK p'
  case neg => exact Ev.g (fun z => e1 (by omega)) (F65 (fun z => e1 (ex.mp z.1).1))
  refine Ev.f (fun z => z (by omega)) (Ev.g ga (Ev.g gb ?_))
  by_cases e2 : pA p = pA p'
  case neg => exact Ev.g (fun z => e2 (by omega)) (F65 (fun z => e2 (ex.mp z.1).2.1))
  refine Ev.f (fun z => z (by omega)) (Ev.g ga (Ev.g gb ?_))
  by_cases e3 : pV p = pV p'
  case neg => exact Ev.g (fun z => e3 (gcmp_eq.mp z)) (F65 (fun z => e3 (ex.mp z.1).2.2.1))
  refine Ev.f (fun z => z (gcmp_eq.mpr e3)) (Ev.g ga (Ev.g gb ?_))
  by_cases e4 : (pX p).length = (pX p').length
  case neg => exact Ev.g (fun z => e4 (by omega)) (F65 (fun z => e4 (by rw [(ex.mp z.1).2.2.2.1])))
  refine Ev.f (fun z => z (by omega)) ?_
  unfold tw_sameParts_j66
  rw [tn, tn, l9, m9, l10, m10, l11, m11, l12, m12]
  refine Ev.f (by decide) (Ev.g ga (Ev.g gb ?_))
  by_cases e5 : pR1 p = pR1 p'
  case neg => exact Ev.g e5 (F135 (fun z => e5 (ex.mp z.1).2.2.2.2.1))
  refine Ev.f (fun z => z e5) (Ev.g ga (Ev.g gb ?_))
  by_cases e6 : pC1 p = pC1 p'
  case neg => exact Ev.g e6 (F135 (fun z => e6 (ex.mp z.1).2.2.2.2.2.1))
  refine Ev.f (fun z => z e6) (Ev.g ga (Ev.g gb ?_))
  by_cases e7 : pR2 p = pR2 p'
  case neg => exact Ev.g e7 (F135 (fun z => e7 (ex.mp z.1).2.2.2.2.2.2.1))
  refine Ev.f (fun z => z e7) (Ev.g ga (Ev.g gb ?_))
  by_cases e8 : pC2 p = pC2 p'
  case neg => exact Ev.g e8 (F135 (fun z => e8 (ex.mp z.1).2.2.2.2.2.2.2.1))
  refine Ev.f (fun z => z e8) ?_
  unfold tw_sameParts_j136
  rw [tn, tn, l14, m14]
  refine Ev.f (by decide) (Ev.g ga (Ev.g gb ?_))
  by_cases e9 : mI τ (h + 24) a = mI τ (h + 24) b
  case neg => exact Ev.g e9 (F175 (fun z => e9 z.2))
  refine Ev.f (fun z => z e9) (Ev.g ga (Ev.g gb ?_))
  by_cases e10 : pW p = pW p'
  case neg => exact Ev.g e10 (F175 (fun z => e10 (ex.mp z.1).2.2.2.2.2.2.2.2.2))
  refine Ev.f (fun z => z e10) ?_
  unfold tw_sameParts_j176
  rw [tn, tn, l5, m5, l8]
  refine Ev.f (by decide) (Ev.g ga (Ev.g gb (Ev.g ga (Ev.c (t_letters (s := pX p) (t := pX p') hN e4 x24 l6 m6 l7 m7) (fun v _ hv => (hv.cg ?_).re)))))
  constructor
  · intro z
    exact ⟨ex.mpr ⟨e1, e2, e3, z, e5, e6, e7, e8, by omega, e10⟩, e9⟩
  · intro z
    exact (ex.mp z.1).2.2.2.1
/-- two parts of rows are the same -/
def EqAt (τ : gMem) (h a b : Nat) (l l' : Fm) (i : Nat) : Prop := l.getD i mkR = l'.getD i mkR ∧ mI τ (h + 24) (a + i) = mI τ (h + 24) (b + i)
theorem RwT.x24 (k : RwT τ h a nv l) {i : Nat} (hi : i < l.length) : (pX (l.getD i mkR)).length ≤ 24 := by
  have O := (k.2.2 i hi).2.2.1
  rcases O with ⟨_, hp, -⟩ | ⟨u, hp, u1, -⟩ | ⟨_, hp⟩ | hp | ⟨_, _, _, _, hp, -⟩ | ⟨_, _, _, _, _, _, hp, -⟩ | ⟨_, _, hp, -⟩
  · rw [hp]; exact Nat.zero_le _
  · rw [hp]; exact u1
  · rw [hp]; exact Nat.zero_le _
  · rw [hp]; exact Nat.zero_le _
  · rw [hp]; exact Nat.zero_le _
  · rw [hp]; exact Nat.zero_le _
  · rw [hp]; exact Nat.zero_le _
theorem rows_iff (k : RwT τ h a nv l) (k' : RwT τ h b nv l') (e : l.length = l'.length) : (∀ i, i < l.length → EqAt τ h a b l l' i) ↔ l = l' := by
  constructor
  · intro z
    refine List.ext_getElem e (fun i h1 h2 => ?_)
    have := (z i h1).1
    rw [List.getD_eq_getElem?_getD, List.getD_eq_getElem?_getD, List.getElem?_eq_getElem h1, List.getElem?_eq_getElem h2] at this
    exact this
  · intro z i hi
    subst z
    exact ⟨rfl, by rw [(k.2.2 i hi).2.2.2.1, (k'.2.2 i hi).2.2.2.1]⟩
theorem t_alike_l {n : Nat} (hN : 500 ≤ N) (k : RwT τ h a nv l) (k' : RwT τ h b nv l') (e : l.length = n) (e' : l'.length = n) (n4 : n ≤ 1000) (ha : a + n ≤ 60420) (hb : b + n ≤ 60420) : ∀ (m i f : Nat), i + m = n → m + 1 < f → (∀ j, j < i → EqAt τ h a b l l' j) → Ev (tw_alike_l66 N h τ ((a + 1 : Nat) : Int) ((b + 1 : Nat) : Int) n (fun y => if y = 0 ∨ y = 1 then some y else none) f 1 i) (fun v => Is01 v (∀ j, j < n → EqAt τ h a b l l' j)) := by
  intro m
  induction m with
  | zero =>
    intro i f h1 h2 h3
    obtain ⟨f, rfl⟩ : ∃ j, f = j + 1 := ⟨f - 1, by omega⟩
    unfold tw_alike_l66
    exact Ev.g (by omega) (Ev.g (Or.inr rfl) (Ev.r (Is01.yes (fun j hj => h3 j (by omega)))))
  | succ m ih =>
    intro i f h1 h2 h3
    obtain ⟨f, rfl⟩ : ∃ j, f = j + 1 := ⟨f - 1, by omega⟩
    unfold tw_alike_l66
    rw [show w32 (((a + 1 : Nat) : Int) - 1 + (i : Int)) = ((a + i : Nat) : Int) by rw [w32_i (by omega) (by omega)]; omega, show w32 (((b + 1 : Nat) : Int) - 1 + (i : Int)) = ((b + i : Nat) : Int) by rw [w32_i (by omega) (by omega)]; omega, inc32 (by omega)]
    have A := k.2.2 i (by omega)
    have B := k'.2.2 i (by omega)
    refine Ev.f (by omega) (Ev.f (by decide) (Ev.c (t_sameParts hN A.1 B.1 A.2.2.2.2.1 B.2.2.2.2.1 (by have := k.x24 (i := i) (by omega); omega)) (fun v _ hv => ?_)))
    rcases hv with ⟨ev, hv⟩ | ⟨ev, hv⟩
    · rw [ev]
      refine ih (i + 1) f (by omega) (by omega) (fun j hj => ?_)
      by_cases c : j = i
      · rw [c]; exact hv
      · exact h3 j (by omega)
    · rw [ev]
      obtain ⟨f, rfl⟩ : ∃ j, f = j + 1 := ⟨f - 1, by omega⟩
      have no : Is01 0 (∀ j, j < n → EqAt τ h a b l l' j) := Is01.no (fun z => hv (z i (by omega)))
      unfold tw_alike_l66
      by_cases ce : (n : Int) ≤ ((i + 1 : Nat) : Int)
      · exact Ev.g ce (Ev.g (Or.inl rfl) (Ev.r no))
      · exact Ev.f ce (Ev.g rfl (Ev.g (Or.inl rfl) (Ev.r no)))
theorem alike0 {K : Int → Option Int} {u1 u2 u3 i : Int} : ∀ n, 0 < n → tw_alike_l66 N h τ u1 u2 u3 K n 0 i = K 0 := by
  intro n hn
  obtain ⟨f, rfl⟩ : ∃ j, n = j + 1 := ⟨n - 1, by omega⟩
  unfold tw_alike_l66
  by_cases c : u3 ≤ i
  · rw [if_pos c]
  · rw [if_neg c, if_pos rfl]
theorem CtB.uniq (k : CtB τ h nv c ct) (k' : CtB τ h nv c ct') (m60 : mI τ h 25 ≤ 60000) : ct = ct' := by
  rcases k with k | ⟨q, k1, k2, k3, k4, k5, k6, k7⟩ | ⟨q, k1, k2, k3, k4, at', k5, k6⟩
  · rw [k.2]; exact (k'.nul.mp k.1).symm
  · rcases k' with j | ⟨q', j1, j2, j3, j4, j5, j6, j7⟩ | ⟨q', j1, j2, j3, j4, -⟩
    · omega
    · have eq : q = q' := by omega
      subst eq
      have el : ct.2.length = ct'.2.length := by omega
      have : ct.2 = ct'.2 := (rows_iff k5 j5 el).mp (fun i hi => ⟨by
        have A := k5.2.2 i hi
        have B := j5.2.2 i (by omega)
        exact LabT.uniq A.1 B.1 A.2.2.2.2.1 B.2.2.2.2.1, rfl⟩)
      exact Prod.ext (by rw [k2, j2]) this
    · have := k5.2.1; omega
  · rcases k' with j | ⟨q', j1, j2, j3, j4, j5, j6, j7⟩ | ⟨q', j1, j2, j3, j4, -⟩
    · omega
    · have := j5.2.1; omega
    · have eq : q = q' := by omega
      subst eq
      obtain ⟨v1, v2, v3, v4, v5, v6, v7, a1, v8, v9, v10⟩ := k3
      obtain ⟨w1, w2, w3, w4, w5, w6, w7, a2, w8, w9, w10⟩ := j3
      have ea : a1 = a2 := by omega
      subst ea
      have e1 : ct.1.1 = ct'.1.1 := by omega
      have e2 : ct.1.2.1 = ct'.1.2.1 := by omega
      have en : ct.1.2.2.length = ct'.1.2.2.length := by omega
      have e3 : ct.1.2.2 = ct'.1.2.2 := gl_ext en (fun i hi => by rw [← v10 i hi, ← w10 i (by omega)])
      exact Prod.ext (Prod.ext e1 (Prod.ext e2 e3)) (by rw [k2, j2])
/-- contents compared by the twin -/
theorem t_alike (hN : 500 ≤ N) (m60 : mI τ h 25 ≤ 60000) (k : CtB τ h nv c ct) (k' : CtB τ h nv c' ct') : Ev (tw_alike N h c c' τ) (fun v => Is01 v (ct = ct')) := by
  unfold tw_alike
  by_cases e : c = c'
  · subst e
    exact Ev.f (fun z => z rfl) (Ev.r (Is01.yes (k.uniq k' m60)))
  refine Ev.g e ?_
  by_cases c0 : c = 0
  · exact Ev.g c0 (Ev.r (Is01.no (fun z => e (by rw [c0, k'.nul.mpr (by rw [← z]; exact k.nul.mp c0)]))))
  refine Ev.f c0 ?_
  by_cases c1 : c' = 0
  · exact Ev.g c1 (Ev.r (Is01.no (fun z => c0 (k.nul.mpr (by rw [z]; exact k'.nul.mp c1)))))
  refine Ev.f c1 ?_
  have isF : ∀ {c : Int} {ct : Ct}, CtB τ h nv c ct → c ≠ 0 → (ct.2 ≠ [] ∧ tw_isFormula c τ = some 1) ∨ (ct.2 = [] ∧ tw_isFormula c τ = some 0) := by
    intro c ct k n0
    rcases k with k | ⟨q, k1, k2, k3, k4, k5, k6, k7⟩ | ⟨q, k1, k2, -⟩
    · exact absurd k.1 n0
    · have := k5.2.1
      refine Or.inl ⟨fun z => by rw [z] at this; exact absurd this (by decide), ?_⟩
      unfold tw_isFormula
      rw [if_neg (by omega), if_neg (by omega)]
    · refine Or.inr ⟨k2, ?_⟩
      unfold tw_isFormula
      rw [if_neg (by omega), if_pos (by omega)]
  rcases isF k c0 with ⟨f1, f2⟩ | ⟨f1, f2⟩ <;> rcases isF k' c1 with ⟨g1, g2⟩ | ⟨g1, g2⟩
  · refine Ev.e f2 (Ev.e g2 (Ev.g rfl (Ev.e f2 (Ev.f (by decide) ?_))))
    rcases k with k | ⟨q, k1, k2, k3, k4, k5, k6, k7⟩ | ⟨q, k1, k2, -⟩
    · exact absurd k.1 c0
    · rcases k' with j | ⟨q', j1, j2, j3, j4, j5, j6, j7⟩ | ⟨q', j1, j2, -⟩
      · exact absurd j.1 c1
      · have lq := k5.2.1
        have lq' := j5.2.1
        rw [k1, j1, show (((q + 1 : Nat) : Int) - 1).toNat = q by omega, show (((q' + 1 : Nat) : Int) - 1).toNat = q' by omega, k4, j4]
        refine Ev.g (by omega) (Ev.g (by omega) ?_)
        by_cases el : ct.2.length = ct'.2.length
        · refine Ev.f (fun z => z (by omega)) ?_
          unfold tw_alike_j61
          refine (t_alike_l (n := ct.2.length) hN k5 j5 rfl el.symm (by omega) (by omega) (by omega) ct.2.length 0 N (by omega) (by omega) (fun j hj => by omega)).m (fun v hv => hv.cg ?_)
          rw [rows_iff k5 j5 el]
          exact ⟨fun z => Prod.ext (by rw [k2, j2]) z, fun z => by rw [z]⟩
        · refine Ev.g (fun z => el (by omega)) ?_
          unfold tw_alike_j61
          rw [alike0 N (by omega), if_pos (Or.inl rfl)]
          exact Ev.r (Is01.no (fun z => el (by rw [z])))
      · exact absurd j2 g1
    · exact absurd k2 f1
  · exact Ev.e f2 (Ev.e g2 (Ev.f (by decide) (Ev.r (Is01.no (fun z => f1 (by rw [z]; exact g1))))))
  · exact Ev.e f2 (Ev.e g2 (Ev.f (by decide) (Ev.r (Is01.no (fun z => g1 (by rw [← z]; exact f1))))))
  · refine Ev.e f2 (Ev.e g2 (Ev.g rfl (Ev.e f2 (Ev.g rfl ?_))))
    rcases k with k | ⟨q, k1, k2, k3, k4, k5, k6, k7⟩ | ⟨q, k1, k2, k3, -⟩
    · exact absurd k.1 c0
    · have := k5.2.1; rw [f1] at this; exact absurd this (by decide)
    · rcases k' with j | ⟨q', j1, j2, j3, j4, j5, j6, j7⟩ | ⟨q', j1, j2, j3, -⟩
      · exact absurd j.1 c1
      · have := j5.2.1; rw [g1] at this; exact absurd this (by decide)
      · obtain ⟨v1, v2, v3, v4, v5, v6, v7, a1, v8, v9, v10⟩ := k3
        obtain ⟨w1, w2, w3, w4, w5, w6, w7, a2, w8, w9, w10⟩ := j3
        have v24 : ct.1.2.2.length ≤ 24 := v1.txt.1
        rw [k1, j1, show w32 (((100000 + q : Nat) : Int) - 100000) = (q : Int) by rw [w32_i (by omega) (by omega)]; omega, show w32 (((100000 + q' : Nat) : Int) - 100000) = (q' : Int) by rw [w32_i (by omega) (by omega)]; omega, tn, tn, v5, w5, v6, w6, v7, w7, v8, w8]
        have gq : 0 ≤ (q : Int) ∧ (q : Int) < ((4200 : Nat) : Int) := by omega
        have gq' : 0 ≤ (q' : Int) ∧ (q' : Int) < ((4200 : Nat) : Int) := by omega
        refine Ev.g gq (Ev.g gq' ?_)
        by_cases e1 : ct.1.1 = ct'.1.1
        case neg => exact Ev.g e1 (Ev.r (Is01.no (fun z => e1 (by rw [z]))))
        refine Ev.f (fun z => z e1) (Ev.g gq (Ev.g gq' ?_))
        by_cases e2 : ct.1.2.1 = ct'.1.2.1
        case neg => exact Ev.g (fun z => e2 (gcmp_eq.mp z)) (Ev.r (Is01.no (fun z => e2 (by rw [z]))))
        refine Ev.f (fun z => z (gcmp_eq.mpr e2)) (Ev.g gq (Ev.g gq' ?_))
        by_cases e3 : ct.1.2.2.length = ct'.1.2.2.length
        case neg => exact Ev.f (fun z => e3 (by omega)) (Ev.r (Is01.no (fun z => e3 (by rw [z]))))
        refine Ev.g (by omega) (Ev.g gq (Ev.g gq' (Ev.g gq (Ev.c (t_letters (s := ct.1.2.2) (t := ct'.1.2.2) hN e3 (by omega) v9 w9 v10 w10) (fun v _ hv => Ev.g hv.b01 (Ev.r (hv.cg ?_)))))))
        exact ⟨fun z => Prod.ext (Prod.ext e1 (Prod.ext e2 z)) (by rw [f1, g1]), fun z => by rw [z]⟩
end Alike2
