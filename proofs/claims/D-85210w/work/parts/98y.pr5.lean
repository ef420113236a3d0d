/-! ===== PHASE 2: reading: the twin's parts ===== -/
section Read5
variable {N x h hi all nv sh M lu0 b b' : Nat} {bA : Nat → Int} {f : Int → List Int × List Int} {σ σ' σ'' τ τ' τ'' s r : gMem}
/-- what reading may change of the twin: parts from b on, letters from lu on -/
def TFP (h b lu a k : Nat) : Prop := (a = h ∧ (k = 19 ∨ k = 41 ∨ k = 42 ∨ (46 ≤ k ∧ k ≤ 59))) ∨ (∃ o, 14 ≤ o ∧ o ≤ 25 ∧ a = h + o ∧ b ≤ k) ∨ (a = h + 9 ∧ lu ≤ k)
def TF (cp h : Nat) (τ r : gMem) (b : Nat) : Prop := Ex (TFP h b (mI τ h 19).toNat) τ r ∧ 0 ≤ mI τ h 19 ∧ mI τ h 19 ≤ mI r h 19 ∧ (mI r h 19 = mI τ h 19 ∨ mI r h 19 ≤ cp) ∧ (By τ (h + 9) → By r (h + 9)) ∧ (mI r h 41 = 0 → mI τ h 41 = 0 ∧ mI r h 42 = mI τ h 42)
theorem By.ex {P : Nat → Nat → Prop} {a : Nat} (e : Ex P τ r) (n : ∀ k, ¬ P a k) (b : By τ a) : By r a := fun i => by rw [e.rI (n i)]; exact b i
theorem TF.tr (x1 : TF (lu0 + hi) h τ τ' b) (x2 : TF (lu0 + hi) h τ' τ'' b') (hb : b ≤ b') : TF (lu0 + hi) h τ τ'' b := by
  obtain ⟨e1, g1, g2, g2', y1, u1⟩ := x1
  obtain ⟨e2, g3, g4, g4', y2, u2⟩ := x2
  refine ⟨e1.tr (e2.mono (fun a k p => ?_)), g1, by omega, by omega, fun b => y2 (y1 b), fun z => ⟨(u1 (u2 z).1).1, by rw [(u2 z).2, (u1 (u2 z).1).2]⟩⟩
  rcases p with p | ⟨o, h1, h2, h3, h4⟩ | p
  · exact Or.inl p
  · exact Or.inr (Or.inl ⟨o, h1, h2, h3, by omega⟩)
  · exact Or.inr (Or.inr ⟨p.1, by omega⟩)
theorem TF.mono (x1 : TF (lu0 + hi) h τ τ' b') (hb : b ≤ b') : TF (lu0 + hi) h τ τ' b := by
  obtain ⟨e1, g1, g2⟩ := x1
  refine ⟨e1.mono (fun a k p => ?_), g1, g2⟩
  rcases p with p | ⟨o, h1, h2, h3, h4⟩ | p
  · exact Or.inl p
  · exact Or.inr (Or.inl ⟨o, h1, h2, h3, by omega⟩)
  · exact Or.inr (Or.inr p)
theorem TF.ex {P : Nat → Nat → Prop} (e : Ex P τ τ') (g : 0 ≤ mI τ h 19) (hP : ∀ a k, P a k → (a = h ∧ (46 ≤ k ∧ k ≤ 59)) ∨ ∃ o, 14 ≤ o ∧ o ≤ 25 ∧ a = h + o ∧ b ≤ k) : TF (lu0 + hi) h τ τ' b := by
  refine ⟨e.mono (fun a k p => ?_), g, ?_⟩
  · rcases hP a k p with q | ⟨o, h1, h2, h3, h4⟩
    · exact Or.inl ⟨q.1, by omega⟩
    · exact Or.inr (Or.inl ⟨o, h1, h2, h3, h4⟩)
  · rw [e.rI (fun p => ?_)]
    · refine ⟨Int.le_refl _, Or.inl rfl, fun b => b.ex e (fun k p => by rcases hP _ _ p with q | ⟨o, h1, h2, h3, h4⟩ <;> omega), fun z => ?_⟩
      have n41 : mI τ' h 41 = mI τ h 41 := e.rI (fun p => by rcases hP _ _ p with q | ⟨o, h1, h2, h3, h4⟩ <;> omega)
      have n42 : mI τ' h 42 = mI τ h 42 := e.rI (fun p => by rcases hP _ _ p with q | ⟨o, h1, h2, h3, h4⟩ <;> omega)
      exact ⟨by omega, n42⟩
    rcases hP _ _ p with q | ⟨o, h1, h2, h3, h4⟩ <;> omega
theorem TF.rf (g : 0 ≤ mI τ h 19) : TF (lu0 + hi) h τ τ b := ⟨Ex.rf, g, Int.le_refl _, Or.inl rfl, fun b => b, fun z => ⟨z, rfl⟩⟩
/-- the twin's place -/
def TR (h hi all nv M : Nat) (bA : Nat → Int) (f : Int → List Int × List Int) (τ : gMem) : Prop :=
  TSt τ h bA hi all ∧ KC τ ∧ (mT τ h = 10 ∧ ∀ o, 1 ≤ o → o ≤ 56 → 100 ≤ mT τ (h + o)) ∧
  (mI τ h 8 = nv ∧ nv ≤ 40 ∧ (∀ s, s < 122 → 0 ≤ tLn τ h s 0 ∧ tLn τ h s 0 ≤ 32 ∧ 0 ≤ tLn τ h s 1 ∧ tLn τ h s 1 ≤ 10) ∧ ∀ ver : Int, -1 ≤ ver → ver < nv → f ver = (tLs τ h (shn 40 ver) 0, tLs τ h (shn 40 ver) 1)) ∧ mI τ h 25 = M ∧ M ≤ 60000
theorem TFP.tag (t : TR h hi all nv M bA f τ) {lu a k : Nat} (p : TFP h b lu a k) : mT τ a < 90 ∨ 100 ≤ mT τ a := by
  obtain ⟨-, -, ⟨t0, to⟩, -⟩ := t
  rcases p with p | ⟨o, h1, h2, h3, h4⟩ | p
  · left; rw [p.1, t0]; decide
  · right; rw [h3]; exact to o (by omega) (by omega)
  · right; rw [p.1]; exact to 9 (by omega) (by omega)
theorem TR.tf (t : TR h hi all nv M bA f τ) (e : TF (lu0 + hi) h τ τ' b) : TR h hi all nv M bA f τ' := by
  have t0 := t
  obtain ⟨⟨a1, a2, a3, a4⟩, kc, ⟨t1, t2⟩, ⟨n1, n2, n3, n4⟩, m1, m2⟩ := t
  have X := e.1
  have nf : ∀ k, (k = 8 ∨ k = 25 ∨ k = 44 ∨ k = 45) → ¬ TFP h b (mI τ h 19).toNat h k := fun k hk p => by
    rcases p with p | ⟨o, h1, h2, h3, h4⟩ | p <;> omega
  have nl : ∀ o k, 1 ≤ o → o ≤ 4 → ¬ TFP h b (mI τ h 19).toNat (h + o) k := fun o k h1 h2 p => by
    rcases p with p | ⟨o', h1, h2, h3, h4⟩ | p <;> omega
  have n27 : ∀ k, ¬ TFP h b (mI τ h 19).toNat (h + 27) k := fun k p => by
    rcases p with p | ⟨o', h1, h2, h3, h4⟩ | p <;> omega
  refine ⟨⟨by rw [X.rI (nf 44 (by omega))]; exact a1, by rw [X.rI (nf 45 (by omega))]; exact a2, fun k hk => by rw [X.rI (n27 k)]; exact a3 k hk, a4⟩, kc.ex X (fun a k p => p.tag t0), by rw [X.rT]; exact ⟨t1, t2⟩, ⟨by rw [X.rI (nf 8 (by omega))]; exact n1, n2, fun s hs => ?_, fun ver v1 v2 => ?_⟩, by rw [X.rI (nf 25 (by omega))]; exact m1, m2⟩
  · rw [tLn.ex X (fun o k h1 h2 => nl o k h1 h2), tLn.ex X (fun o k h1 h2 => nl o k h1 h2)]; exact n3 s hs
  · rw [tLs.ex X (fun o k h1 h2 => nl o k h1 h2), tLs.ex X (fun o k h1 h2 => nl o k h1 h2)]; exact n4 ver v1 v2
/-- a row of parts lies from b on -/
def RwT (τ : gMem) (h b : Nat) (nv : Nat) (l : Fm) : Prop :=
  SpT τ h l.length (b + l.length - 1) l ∧ 0 < l.length ∧ ∀ i, i < l.length → LabT τ h (b + i) (l.getD i mkR) ∧ (∃ at' : Nat, mI τ (h + 18) (b + i) = at' ∧ ((at' + (pX (l.getD i mkR)).length : Nat) : Int) ≤ mI τ h 19) ∧ PtOk (l.getD i mkR) ∧ mI τ (h + 24) (b + i) = ((pF (l.getD i mkR) + (if askd l i then 16 else 0) : Nat) : Int) ∧ pF (l.getD i mkR) < 16 ∧ pW (l.getD i mkR) < nv
/-- parts in a range are as they were -/
theorem SpT.cg : ∀ (n q : Nat) (l : Fm), (∀ k p, k ≤ q → q < k + l.length → LabT τ h k p → LabT τ' h k p) → (∀ k, k ≤ q → q < k + l.length → mI τ' (h + 16) k = mI τ (h + 16) k) → SpT τ h n q l → SpT τ' h n q l := by
  intro n
  induction n with
  | zero => intro q l _ _ k; exact k.elim
  | succ n ih =>
    intro q l hL hS k
    obtain ⟨p, ls, k1, k2, k3, k4, k5, k6, k7, k8⟩ := k
    have hl : l.length = ls.flatten.length + 1 := by rw [k1, List.length_append]; rfl
    refine ⟨p, ls, k1, k2, hL q p (Nat.le_refl _) (by omega) k3, k4, k5, by rw [hS q (Nat.le_refl _) (by omega)]; exact k6, k7, fun i hi => ?_⟩
    have sp : (ls.take i).flatten.length + (ls[i].length + (ls.drop (i + 1)).flatten.length) = ls.flatten.length := by
      have := congrArg (fun z => (List.flatten z).length) (List.take_append_drop i ls)
      rw [List.drop_eq_getElem_cons hi] at this
      simp only [List.flatten_append, List.flatten_cons, List.length_append] at this
      exact this
    have s2 := (k8 i hi).span
    exact ih _ _ (fun k p h1 h2 => hL k p (by omega) (by omega)) (fun k h1 h2 => hS k (by omega) (by omega)) (k8 i hi)
theorem SpT.mono : ∀ (n m q : Nat) (l : Fm), SpT τ h n q l → n ≤ m → SpT τ h m q l := by
  intro n
  induction n with
  | zero => intro m q l k _; exact k.elim
  | succ n ih =>
    intro m q l k hm
    obtain ⟨m, rfl⟩ : ∃ j, m = j + 1 := ⟨m - 1, by omega⟩
    obtain ⟨p, ls, k1, k2, k3, k4, k5, k6, k7, k8⟩ := k
    exact ⟨p, ls, k1, k2, k3, k4, k5, k6, k7, fun i hi => ih m _ _ (k8 i hi) (by omega)⟩
theorem RwT.tf {b0 : Nat} {l : Fm} (k : RwT τ h b0 nv l) (e : TF (lu0 + hi) h τ τ' b) (hb : b0 + l.length ≤ b) : RwT τ' h b0 nv l := by
  obtain ⟨k1, k2, k3⟩ := k
  obtain ⟨X, g1, g2, g2', -, -⟩ := e
  have na : ∀ o k, 14 ≤ o → o ≤ 25 → k < b → ¬ TFP h b (mI τ h 19).toNat (h + o) k := fun o k h1 h2 h3 p => by
    rcases p with p | ⟨o', z1, z2, z3, z4⟩ | p <;> omega
  have nt : ∀ k, k < (mI τ h 19).toNat → ¬ TFP h b (mI τ h 19).toNat (h + 9) k := fun k h3 p => by
    rcases p with p | ⟨o', z1, z2, z3, z4⟩ | p <;> omega
  have LT : ∀ q p, q < b → (∃ at' : Nat, mI τ (h + 18) q = at' ∧ ((at' + (pX p).length : Nat) : Int) ≤ mI τ h 19) → LabT τ h q p → LabT τ' h q p := by
    intro q p hq ⟨at', e1, e2⟩ L
    obtain ⟨l1, l2, l3, l4, ⟨at2, l5, l6, l7⟩, l8, l9, l10, l11, l12, l13, l14⟩ := L
    have ea : at2 = at' := by omega
    subst ea
    refine ⟨l1, by rw [X.rI (na 14 _ (by omega) (by omega) hq)]; exact l2, by rw [X.rI (na 15 _ (by omega) (by omega) hq)]; exact l3, by rw [X.rL (na 17 _ (by omega) (by omega) hq)]; exact l4, ⟨at2, by rw [X.rI (na 18 _ (by omega) (by omega) hq)]; exact l5, l6, fun i hi => by rw [X.rI (nt _ (by omega))]; exact l7 i hi⟩, by rw [X.rI (na 19 _ (by omega) (by omega) hq)]; exact l8, by rw [X.rI (na 20 _ (by omega) (by omega) hq)]; exact l9, by rw [X.rI (na 21 _ (by omega) (by omega) hq)]; exact l10, by rw [X.rI (na 22 _ (by omega) (by omega) hq)]; exact l11, by rw [X.rI (na 23 _ (by omega) (by omega) hq)]; exact l12, ?_, by rw [X.rI (na 25 _ (by omega) (by omega) hq)]; exact l14⟩
    rw [X.rI (na 24 _ (by omega) (by omega) hq)]; exact l13
  refine ⟨SpT.cg _ _ _ (fun q p h1 h2 L => ?_) (fun q h1 h2 => X.rI (na 16 _ (by omega) (by omega) (by omega))) k1, k2, fun i hi => ?_⟩
  · -- the label at q is that of the row
    obtain ⟨j, hj, rfl⟩ : ∃ j, j < l.length ∧ q = b0 + j := ⟨q - b0, by omega, by omega⟩
    obtain ⟨m1, ⟨at', m2, m3⟩, -⟩ := k3 j hj
    obtain ⟨at2, n2, n3, n4⟩ := L.2.2.2.2.1
    refine LT _ _ (by omega) ⟨at2, n2, ?_⟩ L
    have e8 := m1.2.2.2.2.2.1
    have e8' := L.2.2.2.2.2.1
    have : at2 = at' := by omega
    have : (pX p).length = (pX (l.getD j mkR)).length := by omega
    omega
  · obtain ⟨m1, ⟨at', m2, m3⟩, m4, m5, m6, m7⟩ := k3 i hi
    exact ⟨LT _ _ (by omega) ⟨at', m2, m3⟩ m1, ⟨at', by rw [X.rI (na 18 _ (by omega) (by omega) (by omega))]; exact m2, by omega⟩, m4, by rw [X.rI (na 24 _ (by omega) (by omega) (by omega))]; exact m5, m6, m7⟩
/-- rows of parts that end ahead of q, the last one first, by their lengths -/
def SpC (τ : gMem) (h : Nat) : Nat → List Nat → Prop
  | _, [] => True
  | q, m :: ms => 0 < m ∧ m ≤ q ∧ mI τ (h + 16) (q - 1) = (m : Int) ∧ SpC τ h (q - m) ms
def PtP (h q a j : Nat) : Prop := (a = h ∧ j = 56) ∨ ∃ o, 14 ≤ o ∧ o ≤ 25 ∧ a = h + o ∧ j = q
/-- a part as it is made first -/
def PAt (r : gMem) (h q : Nat) (k n sp : Int) : Prop :=
  mI r (h + 14) q = k ∧ mI r (h + 15) q = n ∧ mI r (h + 16) q = sp ∧ mL r (h + 17) q = 0 ∧ mI r (h + 18) q = 0 ∧ mI r (h + 19) q = 0 ∧ mI r (h + 20) q = -1 ∧ mI r (h + 21) q = -1 ∧ mI r (h + 22) q = -1 ∧ mI r (h + 23) q = -1 ∧ mI r (h + 24) q = 0 ∧ mI r (h + 25) q = -1
theorem SpC.cg : ∀ {ms : List Nat} {q : Nat}, SpC τ h q ms → (∀ k, k < q → mI τ' (h + 16) k = mI τ (h + 16) k) → SpC τ' h q ms := by
  intro ms
  induction ms with
  | nil => intro _ _ _; trivial
  | cons m ms ih =>
    intro q k e
    obtain ⟨k1, k2, k3, k4⟩ := k
    exact ⟨k1, k2, by rw [e _ (by omega)]; exact k3, ih k4 (fun j hj => e j (by omega))⟩
theorem t_part_l {K : Int → gMem → Option (Int × gMem)} {Φ : Int × gMem → Prop} {n : Nat} {v3 : Int} (hn : n ≤ 400) : ∀ (ms : List Nat) (i acc q f : Nat) (e : Int), i + ms.length = n → ms.length < f → q ≤ 60420 → acc + q ≤ 60420 → e = (q : Int) - 1 → SpC s h q ms → Ev (K ((acc + ms.sum : Nat) : Int) s) Φ → Ev (tw_part_l54 N h n v3 K f acc e i s) Φ := by
  intro ms
  induction ms with
  | nil =>
    intro i acc q f e h1 h2 h3 h3' h4 h5 h6
    obtain ⟨f, rfl⟩ : ∃ j, f = j + 1 := ⟨f - 1, by omega⟩
    rw [List.length_nil] at h1
    unfold tw_part_l54
    exact Ev.g (by omega) h6
  | cons m ms ih =>
    intro i acc q f e h1 h2 h3 h3' h4 h5 h6
    obtain ⟨f, rfl⟩ : ∃ j, f = j + 1 := ⟨f - 1, by omega⟩
    rw [List.length_cons] at h1 h2
    obtain ⟨k1, k2, k3, k4⟩ := h5
    have ee : e.toNat = q - 1 := by omega
    unfold tw_part_l54
    rw [ee, k3]
    have w1 : w32 ((acc : Int) + (m : Int)) = ((acc + m : Nat) : Int) := by rw [w32_i (by omega) (by omega)]; omega
    have w2 : w32 (e - (m : Int)) = ((q - m : Nat) : Int) - 1 := by rw [w32_i (by omega) (by omega)]; omega
    rw [w1, w2, inc32 (by omega)]
    refine Ev.f (by omega) (Ev.g (by omega) (Ev.g (by omega) (ih (i + 1) (acc + m) (q - m) f _ (by omega) (by omega) (by omega) (by omega) rfl k4 ?_)))
    rw [List.sum_cons] at h6
    rw [show acc + m + ms.sum = acc + (m + ms.sum) by omega]; exact h6
theorem t_part {pa k : Nat} {ms : List Nat} (hN : 500 ≤ N) (hM : mI τ h 25 = M) (m6 : M ≤ 60000) (p0 : mI τ h 56 = pa) (p4 : pa ≤ 401) (f0 : mI τ h 41 = 0) (hk : k ≤ 100) (hms : ms.length ≤ 400) (sc : SpC τ h (M + pa) ms) : Ev (tw_part N h k (ms.length : Nat) τ) (fun r => r.1 = ((M + pa : Nat) : Int) ∧ Ex (PtP h (M + pa)) τ r.2 ∧ mI r.2 h 56 = ((pa + 1 : Nat) : Int) ∧ PAt r.2 h (M + pa) k (ms.length : Nat) ((1 + ms.sum : Nat) : Int)) := by
  have eq' : w32 ((M : Int) + (pa : Int)) = ((M + pa : Nat) : Int) := by rw [w32_i (by omega) (by omega)]; omega
  have eq1 : w32 (((M + pa : Nat) : Int) - 1) = ((M + pa : Nat) : Int) - 1 := by rw [w32_i (by omega) (by omega)]
  have sb : ∀ (ms : List Nat) q, SpC τ h q ms → ms.sum ≤ q := by
    intro ms
    induction ms with
    | nil => intro q _; exact Nat.zero_le _
    | cons m ms ih => intro q k; rw [List.sum_cons]; have := ih _ k.2.2.2; have := k.2.1; omega
  have sb' := sb _ _ sc
  unfold tw_part
  rw [f0, hM, p0, eq', eq1, inc32 (by omega), tn]
  refine Ev.g (by decide) (Ev.l (Ev.g (by omega) (Ev.l (Ev.g (by omega) (Ev.l ?_)))))
  have X0 : ∀ s, s = wI (wI (wI τ h 56 ((pa + 1 : Nat) : Int)) (h + 14) (M + pa) k) (h + 15) (M + pa) (ms.length : Nat) → ∀ j, j < M + pa → mI s (h + 16) j = mI τ (h + 16) j := by
    rintro s rfl j hj
    simp (disch := omega) only [mIwI1]
  refine t_part_l (n := ms.length) hms ms 0 1 (M + pa) N _ (by omega) (by omega) (by omega) (by omega) rfl (sc.cg (X0 _ rfl)) ?_
  refine Ev.g (by omega) (Ev.l (Ev.g (by omega) (Ev.l (Ev.g (by omega) (Ev.l (Ev.g (by omega) (Ev.l (Ev.g (by omega) (Ev.l (Ev.g (by omega) (Ev.l (Ev.g (by omega) (Ev.l (Ev.g (by omega) (Ev.l (Ev.g (by omega) (Ev.l (Ev.g (by omega) (Ev.l (Ev.r ⟨rfl, ?_, ?_, ?_⟩))))))))))))))))))))
  · refine Ex.I (Ex.I (Ex.I (Ex.I (Ex.I (Ex.I (Ex.I (Ex.I (Ex.L (Ex.I (Ex.I (Ex.I (Ex.I Ex.rf ?_) ?_) ?_) ?_) ?_) ?_) ?_) ?_) ?_) ?_) ?_) ?_) ?_
    · exact Or.inl ⟨rfl, rfl⟩
    · exact Or.inr ⟨14, by omega, by omega, rfl, rfl⟩
    · exact Or.inr ⟨15, by omega, by omega, rfl, rfl⟩
    · exact Or.inr ⟨16, by omega, by omega, rfl, rfl⟩
    · exact Or.inr ⟨17, by omega, by omega, rfl, rfl⟩
    · exact Or.inr ⟨18, by omega, by omega, rfl, rfl⟩
    · exact Or.inr ⟨19, by omega, by omega, rfl, rfl⟩
    · exact Or.inr ⟨20, by omega, by omega, rfl, rfl⟩
    · exact Or.inr ⟨21, by omega, by omega, rfl, rfl⟩
    · exact Or.inr ⟨22, by omega, by omega, rfl, rfl⟩
    · exact Or.inr ⟨23, by omega, by omega, rfl, rfl⟩
    · exact Or.inr ⟨24, by omega, by omega, rfl, rfl⟩
    · exact Or.inr ⟨25, by omega, by omega, rfl, rfl⟩
  · simp (disch := omega) only [mIwI1, mIwI2, w32_i, mI_wL]
  · unfold PAt
    refine ⟨?_, ?_, ?_, ?_, ?_, ?_, ?_, ?_, ?_, ?_, ?_, ?_⟩
    · simp (disch := omega) only [mIwI1, mIwI2, w32_i, mI_wL]
    · simp (disch := omega) only [mIwI1, mIwI2, w32_i, mI_wL]
    · simp (disch := omega) only [mIwI1, mIwI2, w32_i, mI_wL]
    · simp only [mL_wI]
      rw [mL_wL, if_pos ⟨rfl, rfl⟩]; exact w64_id (by decide)
    all_goals simp (disch := omega) only [mIwI1, mIwI2, w32_i, mI_wL]
end Read5
