/-! ===== PHASE 2: the act enter: what reading may change ===== -/
section State57
variable {N x h u b nv nv' pa un fs i t t' q n fi la : Nat} {σ σ' τ τ' r s f : gMem} {P : Nat → Nat → Prop} {W : Nat → Prop} {own rt : Nat → Nat} {S S' : Sh} {Gs : Nat → Sh} {g : Nat → Nat → Vl} {v w : Int} {ct : Ct} {a A : Nat}
def EnW (x a : Nat) : Prop := a = x ∨ a = x + 1429 ∨ a = x + 1430
/-- what the reference may write: scratch, faults, contents not in use -/
def EnA (τ : gMem) (h a k : Nat) : Prop := ((a = h ∧ (k = 0 ∨ k = 19 ∨ k = 24 ∨ k = 25 ∨ (40 ≤ k ∧ k ≤ 59))) ∨ (h + 9 ≤ a ∧ a ≤ h + 26)) ∧ ¬ CoP τ h a k
theorem EnW.tg (l : LYc x σ) (w : EnW x a) : mT σ a = 1 ∨ mT σ a = 6 ∨ mT σ a = 108 := by
  rcases w with w | w | w
  · rw [w]; exact Or.inl l.1.1
  · rw [w]; exact Or.inr (Or.inl l.2.2.1.1)
  · rw [w]; exact Or.inr (Or.inr (l.T (1430, 108, 400) (by decide)).1)
theorem EnW.wn (l : LYc x σ) : WN σ (EnW x) := by
  refine ⟨fun w => by have := EnW.tg l w; rw [l.z0] at this; omega, fun a w => ?_⟩
  have t := EnW.tg l w
  refine ⟨by omega, fun e => ?_, fun e => by omega⟩
  rcases w with w | w | w
  · rw [w, l.1.1] at e; cases e
  · rw [w, l.2.2.1.1] at e; cases e
  · rw [w]; exact l.np
/-- both have read -/
theorem Rl.en (R : Rl x h t nv pa un fs Gs g own rt σ τ) (K : Kz (EnW x) σ σ') (eR : mR σ' x = mR σ x) (eI : ∀ j, j ≠ 1 → j ≠ 2 → j ≠ 3 → j ≠ 17 → mI σ' x j = mI σ x j) (e9 : ∀ j, (j = 0 ∨ j = 9 ∨ j = 10) → mR σ' (x + 1429) j = mR σ (x + 1429) j) (np : ∀ q, mZ σ ≤ q → mT σ' q = 18 → mR σ' q 1 ≠ x + 1430) (e : Ex P τ τ') (hP : ∀ a k, P a k → EnA τ h a k) (b9 : By τ (h + 9) → By τ' (h + 9)) (gw : Grw τ τ' h) (m25 : mI τ' h 25 ≤ 60000) (ht : t ≤ t') (m19 : mI τ' h 19 ≤ 400 * (t' : Int)) (m24 : mI τ' h 24 ≤ (t' : Int)) (n1 : Rtp x h σ' τ') (n2 : Rfl x h σ' τ') (n3 : Rpt x h σ' τ') : Rl x h t' nv pa un fs Gs g own rt σ' τ' := by
  have R0 := R
  obtain ⟨RC0, RT0, ⟨q1, q2, q3, q4, q5⟩, q6, q7, q8⟩ := R
  obtain ⟨⟨a1, a2, a3, a4⟩, ⟨r2, r3, r4, r5, r6, r7, r8⟩, r9, r10, r11, r12⟩ := RT0
  have l := RC0.1
  have hh := RC0.2.1.1
  have E : ∀ a k, ¬ EnA τ h a k → mI τ' a k = mI τ a k := fun a k n => e.rI (fun p => n (hP a k p))
  have eh : ∀ k, (k < 19 ∧ 0 < k ∨ (60 ≤ k)) → mI τ' h k = mI τ h k := fun k hk => E h k (by unfold EnA; omega)
  have nP : ∀ o k, (o = 36 ∨ o = 31 ∨ o = 37 ∨ o = 28 ∨ o = 29 ∨ o = 30 ∨ o = 32) → ¬ P (h + o) k := fun o k ho p => by have := hP _ _ p; unfold EnA at this; omega
  obtain ⟨b1, b2, b3, b4⟩ := a2
  have wn := EnW.wn l
  have no : ∀ a, EnW x a → ¬ OutS x h a := fun a w => by unfold EnW at w; unfold OutS; omega
  have ly : LYc x σ' := l.kp K wn.1 (fun a w => by have := EnW.tg l w; omega) (fun a j w rk => by
    rcases w with w | w | w
    · rw [w, eR]
    · rw [w]; exact e9 j (by unfold RK at rk; omega)
    · unfold RK at rk; omega) (fun q hq ht => by
    rcases hq with hq | hq
    · exact np q hq ht
    · have := EnW.tg l hq
      rw [K.tag l.ok (by omega)] at ht; omega)
  obtain ⟨V, hV⟩ := RC0.2.2.2.2.2.2
  have VG' : ∀ {c : Nat} {v : Vl}, VC τ h c v → VC τ' h c v := fun {c v} hv => VG.ex e hv (nP 28 _ (by omega)) (nP 29 _ (by omega)) (nP 30 _ (by omega)) (fun i _ => nP 31 _ (by omega))
  have fr : FrS x h (EnW x) σ σ' := ⟨K, l.ok, l.z, wn, fun a w o => absurd o (no a w), by unfold EnW; omega, fun j hj => eI j (by omega) (by omega) (by omega) (by omega), by rw [eR], by rw [eR]⟩
  refine ⟨RC0.kp K wn no (by unfold EnW; omega) ly (by rw [eR]) ⟨eI 5 (by decide) (by decide) (by decide) (by decide), eI 13 (by decide) (by decide) (by decide) (by decide), eI 14 (by decide) (by decide) (by decide) (by decide)⟩ ⟨V, hV.kp K l.ok (fun i hi => by unfold EnW; omega)⟩, ⟨⟨TMb.ex e a1, ⟨fun i => ?_, fun i => ?_, b9 b3, fun i => ?_⟩, a3.tw a1 e (fun a k p => by have := hP a k p; unfold EnA at this; omega), a4.ex e (fun b k p => by have := hP b k p; unfold EnA at this; omega)⟩, ⟨by rw [eh 8 (by omega)]; exact r2, by rw [eh 16 (by omega)]; exact r3, by rw [eh 17 (by omega)]; exact r4, by rw [eh 15 (by omega)]; exact r5, r6, r7, r8⟩, fun s hs => ?_, ?_, fun i hi => ?_, fun c hc => ?_⟩, ⟨n1, n2, ?_, n3, q5.mv fr l.t5 RC0.vo e (fun a k p => ⟨fun q => by have := hP a k p; unfold EnA at this; unfold FtP at q; omega, (hP a k p).2⟩) gw⟩, fun i hi => ?_, q7.kp K l.ok (fun i hi => by unfold EnW; omega) (eI 10 (by decide) (by decide) (by decide) (by decide)), ⟨fun k hk z cc hc => ?_, fun k h1 h2 => by rw [E _ _ (by unfold EnA; omega)]; exact q8.2.1 k h1 h2, fun z => ?_⟩⟩
  · rw [e.rI (nP 36 i (by omega))]; exact b1 i
  · rw [e.rI (nP 31 i (by omega))]; exact b2 i
  · rw [e.rI (nP 37 i (by omega))]; exact b4 i
  · rw [E _ _ (by unfold EnA; omega), E _ _ (by unfold EnA; omega)]; exact r9 s hs
  · unfold Grw at gw; omega
  · have n := R0.2.1.len hi
    exact (r11 i hi).ex e (fun a k p q => by have := hP a k p; unfold EnA at this; unfold SlP at q; omega) (fun a k p => (hP a k p).2) gw (Nat.le_refl _) n.1 n.2
  · obtain ⟨v, hv⟩ := r12 c hc
    exact ⟨v, VG' hv⟩
  · unfold Rnx at q3 ⊢; rw [eI 21 (by decide) (by decide) (by decide) (by decide), eI 22 (by decide) (by decide) (by decide) (by decide), eh 6 (by omega), eh 7 (by omega)]; omega
  · rw [eh 6 (by omega), eh 7 (by omega)]; exact q6 i hi
  · rw [E _ _ (by unfold EnA; omega)] at z
    exact VG' (q8.1 k hk z cc hc)
  · rw [eh 65 (by omega)] at z
    obtain ⟨V, v1, v2⟩ := q8.2.2 z
    exact ⟨V, v1, fun cc hc => VG' (v2 cc hc)⟩
/-- lines of the sheets, by what they are called in formulas -/
def frV (Gs : Nat → Sh) (ver : Int) : List Int × List Int := (Gs (rix ver)).1
theorem rix_w (c : Rl x h t nv pa un fs Gs g own rt σ τ) (h1 : -1 ≤ v) (h2 : v < nv) : rtV nv pa un (rix v) ∧ tsN fs (rix v) = shn 40 v := by
  unfold rix shn
  by_cases e : v < 0
  · rw [if_pos e, if_pos e]; exact ⟨Or.inl rfl, rfl⟩
  · have := c.c5
    rw [if_neg e, if_neg e]
    refine ⟨by unfold rtV; omega, ?_⟩
    unfold tsN
    rw [if_neg (by omega), if_neg (by omega), if_neg (by omega)]; omega
theorem Rl.fn (R : Rl x h t nv pa un fs Gs g own rt σ τ) : FN nv (frV Gs) := by
  intro v h1 h2
  have sp := R.shP (rix_w R h1 h2).1
  refine ⟨fun i => ?_, fun i => ?_⟩
  · by_cases c : i < (Gs (rix v)).1.1.length
    · exact (sp.2.2.1 _ (gl_mem c)).1
    · unfold frV gl; rw [List.getElem?_eq_none (by omega)]; exact Int.le_refl _
  · by_cases c : i < (Gs (rix v)).1.2.length
    · exact (sp.2.2.2.1 _ (gl_mem c)).1
    · unfold frV gl; rw [List.getElem?_eq_none (by omega)]; exact Int.le_refl _
/-- a tape's bytes -/
def tpA (τ : gMem) (h n k : Nat) : Int := if k < n then mI τ (h + 27) k else -1
theorem tpA_tx (n4 : n ≤ 400) (b : ∀ k, k < n → 0 ≤ mI τ (h + 27) k ∧ mI τ (h + 27) k < 256) : TxB (tpA τ h n) n n := by
  refine ⟨fun k hk => ?_, fun k hk => ?_, Nat.le_refl _, n4⟩
  · unfold tpA; rw [if_pos hk]; exact b k hk
  · unfold tpA; rw [if_neg (by omega)]
/-- the reader stands at the text -/
theorem Rl.cr {bA : Nat → Int} (R : Rl x h t nv pa un fs Gs g own rt s r) (tx : TxB bA n n) (tp : ∀ k, k < n → mI s (x + 1) k = sby (bA k)) (f3 : mR s (x + 1429) 3 = x + 1) (f2 : mR s (x + 1429) 2 = rt 0) (i4 : mI s (x + 1429) 4 = n) (i5 : mI s (x + 1429) 5 = n) (i1 : mI s (x + 1429) 1 = nv) : CR x n n nv (rt 0) bA (frV Gs) s := by
  have l := R.1.1
  have c5 := R.c5
  obtain ⟨l1, l2, l3, l4, l5⟩ := l.2.2.1
  have T1 := l.T (1, 102, 400) (by decide)
  have T2 := l.T (2, 104, 40) (by decide)
  have T3 := l.T (1430, 108, 400) (by decide)
  have T4 := l.T (1431, 109, 18) (by decide)
  (try dsimp only at T1 T2 T3 T4)
  refine ⟨⟨l1, i5, i4, f3, T1.1, T1.2, tp, tx⟩, ⟨l2, T2.1, T2.2, i1, c5.2.2.1, fun ver hv => ?_, f2, R.c0.2.1⟩, ⟨l3, T3.1, T3.2, l4, T4.1, T4.2, l5⟩, l.kc, l.ok, l.z, l.z0, l.np⟩
  obtain ⟨v1, v2⟩ := R.ver hv
  refine ⟨v1, ?_⟩
  rw [v2]
  have e : rix (ver : Int) = 81 + ver := by unfold rix; rw [if_neg (by omega)]; omega
  unfold frV
  rw [e]
  exact (R.shC (show rtV nv pa un (81 + ver) by unfold rtV; omega)).1
/-- the reference stands at the text -/
theorem Rl.trd {bA : Nat → Int} (R : Rl x h t nv pa un fs Gs g own rt s r) (tx : TxB bA n n) (tp : ∀ k, k < n → mI r (h + 27) k = bA k) (i44 : mI r h 44 = la) (i45 : mI r h 45 = n) (hl : la ≤ n) : TR h la n nv (mI r h 25).toNat (cutB la bA) (frV Gs) r := by
  have c5 := R.c5
  obtain ⟨⟨a1, a2, a3, a4⟩, ⟨r2, r3, r4, r5, r6, r7, r8⟩, r9, r10, r11, r12⟩ := R.2.1
  refine ⟨⟨i44, i45, fun k hk => ?_, tx.cut hl⟩, a3, ⟨(TMb.tags a1).1, fun o h1 h2 => (TMb.t100 a1 h1 h2).1⟩, ⟨r2, r7, fun s hs => ?_, fun v h1 h2 => ?_⟩, by omega, by omega⟩
  · unfold cutB; rw [if_pos hk]; exact tp k (by omega)
  · unfold tLn; rw [if_neg (by decide), if_pos (by decide)]; have := r9 s hs; omega
  · obtain ⟨v1, v2⟩ := rix_w R h1 h2
    have ls := (R.shT v1).ls
    rw [v2] at ls
    rw [ls.1, ls.2]; rfl
/-- the ends of what is entered -/
theorem trim_f (bA : Nat → Int) (n : Nat) : ∃ fi, fi ≤ n ∧ (∀ k, k < fi → bA k = 32) ∧ (fi < n → bA fi ≠ 32) := by
  induction n with
  | zero => exact ⟨0, Nat.le_refl _, fun k hk => absurd hk (Nat.not_lt_zero _), fun z => absurd z (Nat.lt_irrefl _)⟩
  | succ n ih =>
    obtain ⟨fi, h1, h2, h3⟩ := ih
    by_cases c : fi < n
    · exact ⟨fi, by omega, h2, fun _ => h3 c⟩
    · obtain rfl : fi = n := by omega
      by_cases e : bA fi = 32
      · exact ⟨fi + 1, Nat.le_refl _, fun k hk => by
          by_cases k1 : k = fi
          · rw [k1]; exact e
          · exact h2 k (by omega), fun z => absurd z (Nat.lt_irrefl _)⟩
      · exact ⟨fi, by omega, h2, fun _ => e⟩
theorem trim_b (bA : Nat → Int) (fi : Nat) : ∀ m : Nat, ∃ la, fi ≤ la ∧ la ≤ fi + m ∧ (∀ k, la ≤ k → k < fi + m → bA k = 32) ∧ (fi < la → bA (la - 1) ≠ 32) := by
  intro m
  induction m with
  | zero => exact ⟨fi, Nat.le_refl _, by omega, fun k h1 h2 => by omega, fun z => absurd z (Nat.lt_irrefl _)⟩
  | succ m ih =>
    by_cases e : bA (fi + m) = 32
    · obtain ⟨la, h1, h2, h3, h4⟩ := ih
      exact ⟨la, h1, by omega, fun k k1 k2 => by
        by_cases c : k = fi + m
        · rw [c]; exact e
        · exact h3 k k1 (by omega), h4⟩
    · exact ⟨fi + (m + 1), by omega, by omega, fun k k1 k2 => by omega, fun _ => by rw [show fi + (m + 1) - 1 = fi + m by omega]; exact e⟩
/-- the class's ends -/
theorem c_l47 {bA : Nat → Int} {K : Int → gMem → Option gR} (t1 : mT s (x + 1) = 102) (n1 : mN s (x + 1) = 400) (n4 : n ≤ 400) (tx : TxB bA n n) (tp : ∀ k, k < n → mI s (x + 1) k = sby (bA k)) (h1 : fi ≤ n) (h2 : ∀ k, k < fi → bA k = 32) (h3 : fi < n → bA fi ≠ 32) : ∀ (m i fu : Nat), i + m = fi → m < fu → x6_read_l47 N (x + 1429) (x + 1) n K fu i s = K fi s := by
  intro m
  induction m with
  | zero =>
    intro i fu e1 e2
    obtain ⟨fu, rfl⟩ : ∃ j, fu = j + 1 := ⟨fu - 1, by omega⟩
    obtain rfl : i = fi := by omega
    unfold x6_read_l47
    by_cases c : i < n
    · have b := tx.1 i c
      rw [if_neg (by omega), if_pos t1, if_pos (by omega), tn, tp i c, if_pos (fun z => h3 c ((sby_lo b.1 b.2 (by decide) (by decide)).mp z))]
    · rw [if_pos (by omega)]
  | succ m ih =>
    intro i fu e1 e2
    obtain ⟨fu, rfl⟩ : ∃ j, fu = j + 1 := ⟨fu - 1, by omega⟩
    have b := tx.1 i (by omega)
    unfold x6_read_l47
    rw [if_neg (by omega), if_pos t1, if_pos (by omega), tn, tp i (by omega), if_neg (fun z => z ((sby_lo b.1 b.2 (by decide) (by decide)).mpr (h2 i (by omega)))), inc32 (by omega)]
    exact ih (i + 1) fu (by omega) (by omega)
theorem c_l69 {bA : Nat → Int} {K : Int → gMem → Option gR} (t1 : mT s (x + 1) = 102) (n1 : mN s (x + 1) = 400) (n4 : n ≤ 400) (tx : TxB bA n n) (tp : ∀ k, k < n → mI s (x + 1) k = sby (bA k)) (h1 : fi ≤ la) (h2 : ∀ k, la ≤ k → k < n → bA k = 32) (h3 : fi < la → bA (la - 1) ≠ 32) : ∀ (m fu : Nat), la + m ≤ n → m < fu → x6_read_l69 N (x + 1429) (x + 1) fi K fu ((la + m : Nat) : Int) s = K la s := by
  intro m
  induction m with
  | zero =>
    intro fu e1 e2
    obtain ⟨fu, rfl⟩ : ∃ j, fu = j + 1 := ⟨fu - 1, by omega⟩
    unfold x6_read_l69
    by_cases c : fi < la
    · have b := tx.1 (la - 1) (by omega)
      rw [if_neg (by omega), if_pos t1, if_pos (by omega), show (((la + 0 : Nat) : Int) - 1).toNat = la - 1 by omega, tp (la - 1) (by omega), if_pos (fun z => h3 c ((sby_lo b.1 b.2 (by decide) (by decide)).mp z))]
      rfl
    · rw [if_pos (by omega)]; rfl
  | succ m ih =>
    intro fu e1 e2
    obtain ⟨fu, rfl⟩ : ∃ j, fu = j + 1 := ⟨fu - 1, by omega⟩
    have b := tx.1 (la + m) (by omega)
    unfold x6_read_l69
    rw [if_neg (by omega), if_pos t1, if_pos (by omega), show (((la + (m + 1) : Nat) : Int) - 1).toNat = la + m by omega, tp (la + m) (by omega), if_neg (fun z => z ((sby_lo b.1 b.2 (by decide) (by decide)).mpr (h2 (la + m) (by omega) (by omega)))), show w32 (((la + (m + 1) : Nat) : Int) + -1) = ((la + m : Nat) : Int) by rw [w32_i (by omega) (by omega)]; omega]
    exact ih fu (by omega) (by omega)
/-- the reference's ends -/
theorem t_l57 {bA : Nat → Int} {v w : Int} (n4 : n ≤ 400) (tp : ∀ k, k < n → mI τ (h + 27) k = bA k) (i44 : mI τ h 44 = n) (h1 : fi ≤ n) (h2 : ∀ k, k < fi → bA k = 32) (h3 : fi < n → bA fi ≠ 32) : ∀ (m i fu : Nat) (s : gMem), i + m = fi → m < fu → Ex (fun a j => a = h ∧ j = 43) τ s → mI s h 43 = i → ∃ s', Ex (fun a j => a = h ∧ j = 43) τ s' ∧ mI s' h 43 = fi ∧ ∀ K, tw_enter_l57 N h v w K fu s = K s' := by
  intro m
  induction m with
  | zero =>
    intro i fu s e1 e2 X i43
    obtain ⟨fu, rfl⟩ : ∃ j, fu = j + 1 := ⟨fu - 1, by omega⟩
    obtain rfl : i = fi := by omega
    have j44 : mI s h 44 = n := by rw [X.rI (by omega)]; exact i44
    refine ⟨s, X, i43, fun K => ?_⟩
    unfold tw_enter_l57
    rw [i43, j44]
    by_cases c : i < n
    · rw [if_neg (by omega), if_pos (by omega), tn, X.rI (by omega), tp i c, if_pos (h3 c)]
    · rw [if_pos (by omega)]
  | succ m ih =>
    intro i fu s e1 e2 X i43
    obtain ⟨fu, rfl⟩ : ∃ j, fu = j + 1 := ⟨fu - 1, by omega⟩
    have j44 : mI s h 44 = n := by rw [X.rI (by omega)]; exact i44
    obtain ⟨s', x1, x2, x3⟩ := ih (i + 1) fu (wI s h 43 ((i + 1 : Nat) : Int)) (by omega) (by omega) (X.I ⟨rfl, rfl⟩) (by rw [mIwI2 ⟨rfl, rfl⟩, w32_i (by omega) (by omega)])
    refine ⟨s', x1, x2, fun K => ?_⟩
    rw [← x3 K]
    conv => lhs; unfold tw_enter_l57
    rw [i43, j44, if_neg (by omega), if_pos (by omega), tn, X.rI (by omega), tp i (by omega), if_neg (fun z => z (h2 i (by omega))), inc32 (by omega)]
    rfl
theorem t_l95 {bA : Nat → Int} {v w : Int} (n4 : n ≤ 400) (tp : ∀ k, k < n → mI τ (h + 27) k = bA k) (i43 : mI τ h 43 = fi) (h0 : la ≤ n) (h1 : fi ≤ la) (h2 : ∀ k, la ≤ k → k < n → bA k = 32) (h3 : fi < la → bA (la - 1) ≠ 32) : ∀ (m fu : Nat) (s : gMem), la + m ≤ n → m < fu → Ex (fun a j => a = h ∧ j = 44) τ s → mI s h 44 = ((la + m : Nat) : Int) → ∃ s', Ex (fun a j => a = h ∧ j = 44) τ s' ∧ mI s' h 44 = la ∧ ∀ K, tw_enter_l95 N h v w K fu s = K s' := by
  intro m
  induction m with
  | zero =>
    intro fu s e1 e2 X i44
    obtain ⟨fu, rfl⟩ : ∃ j, fu = j + 1 := ⟨fu - 1, by omega⟩
    have j43 : mI s h 43 = fi := by rw [X.rI (by omega)]; exact i43
    refine ⟨s, X, by rw [i44]; rfl, fun K => ?_⟩
    unfold tw_enter_l95
    rw [i44, j43]
    by_cases c : fi < la
    · rw [if_neg (by omega), if_pos (by omega), show (((la + 0 : Nat) : Int) - 1).toNat = la - 1 by omega, X.rI (by omega), tp (la - 1) (by omega), if_pos (h3 c)]
    · rw [if_pos (by omega)]
  | succ m ih =>
    intro fu s e1 e2 X i44
    obtain ⟨fu, rfl⟩ : ∃ j, fu = j + 1 := ⟨fu - 1, by omega⟩
    have j43 : mI s h 43 = fi := by rw [X.rI (by omega)]; exact i43
    obtain ⟨s', x1, x2, x3⟩ := ih fu (wI s h 44 ((la + m : Nat) : Int)) (by omega) (by omega) (X.I ⟨rfl, rfl⟩) (by rw [mIwI2 ⟨rfl, rfl⟩, w32_i (by omega) (by omega)])
    refine ⟨s', x1, x2, fun K => ?_⟩
    rw [← x3 K]
    conv => lhs; unfold tw_enter_l95
    rw [i44, j43, if_neg (by omega), if_pos (by omega), show (((la + (m + 1) : Nat) : Int) - 1).toNat = la + m by omega, X.rI (by omega), tp (la + m) (by omega), if_neg (fun z => z (h2 (la + m) (by omega) (by omega))), show w32 (((la + (m + 1) : Nat) : Int) - 1) = ((la + m : Nat) : Int) by rw [w32_i (by omega) (by omega)]; omega]
    rfl
end State57
