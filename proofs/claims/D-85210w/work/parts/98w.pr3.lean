/-! ===== PHASE 2: reading: the twin's next token ===== -/
section Read3
variable {N x h p q hi all : Nat} {bA : Nat → Int} {σ σ' τ τ' s : gMem}
def refT : List Int := [35, 82, 69, 70]
def isRf (bA : Nat → Int) (q : Nat) : Bool := decide (bA q = 35 ∧ bA (q + 1) = 82 ∧ bA (q + 2) = 69 ∧ bA (q + 3) = 70)
theorem isRf_wd : isRf bA q = true ↔ WdA bA q (q + 4) refT := by
  unfold isRf WdA
  rw [decide_eq_true_iff]
  constructor
  · rintro ⟨h0, h1, h2, h3⟩
    refine ⟨rfl, fun i hi => ?_⟩
    have hi' : i < 4 := hi
    rcases (by omega : i = 0 ∨ i = 1 ∨ i = 2 ∨ i = 3) with e | e | e | e <;> subst e
    · exact h0
    · exact h1
    · exact h2
    · exact h3
  · rintro ⟨-, h⟩
    exact ⟨h 0 (by decide), h 1 (by decide), h 2 (by decide), h 3 (by decide)⟩
def tkK (bA : Nat → Int) (q : Nat) : Int :=
  if bA q = -1 then 0 else if isD (bA q) then 1 else if bA q = 34 then 2 else if isL (bA q) = true ∨ bA q = 36 then (if isC bA q then 3 else if bA q = 36 then 10 else 4) else if isRf bA q then 5 else (sgO (bA q) (bA (q + 1))).1
/-- the token at q is told -/
def LX (r : gMem) (h : Nat) (bA : Nat → Int) (all q : Nat) : Prop :=
  mI r h 47 = tkK bA q ∧ mI r h 48 = (if bA q = -1 then (all : Int) else q) ∧ mI r h 46 = mI r h 49 ∧
  (tkK bA q = 9 → mI r h 50 = (sgO (bA q) (bA (q + 1))).2.1 ∧ mI r h 49 = ((q + (sgO (bA q) (bA (q + 1))).2.2 : Nat) : Int)) ∧
  ((tkK bA q = 6 ∨ tkK bA q = 7 ∨ tkK bA q = 8) → mI r h 49 = ((q + 1 : Nat) : Int)) ∧ (tkK bA q = 5 → mI r h 49 = ((q + 4 : Nat) : Int)) ∧
  (tkK bA q = 4 → ∃ e, Fst isL bA q e ∧ mI r h 49 = (e : Int)) ∧
  (tkK bA q = 3 → mI r h 49 = ck3 bA q ∧ mI r h 52 = cRow bA q ∧ mI r h 53 = cCol bA q ∧ mI r h 54 = cFix bA q) ∧
  (tkK bA q = 1 → ∃ e, Fst isD bA q e ∧ mI r h 49 = (e : Int) ∧ mI r h 51 = if e - q ≤ 15 then -1 else ((q + 15 : Nat) : Int)) ∧
  (tkK bA q = 2 → (∀ w, qtS bA all q = .inl w → mI r h 51 = (w : Int)) ∧ ∀ e, qtS bA all q = .inr e → mI r h 51 = -1 ∧ mI r h 49 = ((e + 1 : Nat) : Int))
theorem sgO_k (c d : Int) : ((sgO c d).1 = 9 ∨ (sgO c d).1 = 6 ∨ (sgO c d).1 = 7 ∨ (sgO c d).1 = 8 ∨ (sgO c d).1 = 10) ∧ ((sgO c d).1 ≠ 9 → (sgO c d).2.2 = 1) ∧ (sgO c d).2.2 ≤ 2 := by
  unfold sgO
  repeat' (first | split | (refine ⟨?_, ?_, ?_⟩ <;> simp))
theorem qt_b {all q : Nat} : ∀ (m p : Nat), q < p → p ≤ q + 26 → (∀ e, qt bA all q m p = .inr e → e ≤ q + 26 ∧ bA e = 34 ∧ q < e) := by
  intro m
  induction m with
  | zero => intro p h1 h2 e he; unfold qt at he; cases he
  | succ m ih =>
    intro p h1 h2 e he
    unfold qt at he
    by_cases d1 : bA p = 34
    · rw [if_pos d1] at he; have := Sum.inr.inj he; subst this; exact ⟨by omega, d1, h1⟩
    · rw [if_neg d1] at he
      by_cases d2 : bA p = -1
      · rw [if_pos d2] at he; cases he
      · rw [if_neg d2] at he
        by_cases d3 : 24 < p - q
        · rw [if_pos d3] at he; cases he
        · rw [if_neg d3] at he
          cases d4 : isG (bA p) with
          | true => rw [d4, if_pos rfl] at he; exact ih (p + 1) (by omega) (by omega) e he
          | false => rw [d4, if_neg (by decide)] at he; cases he
theorem t_disp (hN : 500 ≤ N) (c : TSt s h bA hi all) (kx : Kx s (mR s 0 100) refT) (g46 : mI s h 46 = q) (g48 : mI s h 48 = q) (g51 : mI s h 51 = -1) (q4 : q ≤ 400) : Ev ((tw_byteAt h (mI s h 46) s).bind (fun x12 => if x12 ≠ (-1) then (tw_isDigit x12 s).bind (fun x14 => if x14 = 0 then if x12 ≠ 34 then (tw_isLetter x12 s).bind (fun x16 => if x16 ≠ 0 then tw_next_j113 N h x12  s else if x12 ≠ 36 then if x12 ≠ 35 then tw_next_j156 N h x12  s else (tw_isWord N h (mI s h 46) 4 (mR s 0 100) s).bind (fun x33 => if x33 = 0 then tw_next_j156 N h x12  s else (tw_is h 5 (w32 ((mI s h 46) + 4)) s).bind (fun x36 => gLet (wI x36 h 46 (mI x36 h 49)) (fun s40 => some s40))) else tw_next_j113 N h x12  s) else (tw_textToken N h s).bind (fun x43 => gLet (wI x43 h 46 (mI x43 h 49)) (fun s47 => some s47)) else (tw_numberToken N h s).bind (fun x50 => gLet (wI x50 h 46 (mI x50 h 49)) (fun s54 => some s54))) else (tw_is h 0 (mI s h 46) s).bind (fun x58 => gLet (wI x58 h 48 (mI x58 h 45)) (fun s62 => gLet (wI s62 h 46 (mI s62 h 49)) (fun s66 => some s66))))) (fun r => Ex (Tk h) s r ∧ LX r h bA all q) := by
  have t := c.2.2.2
  have l1 := t.2.2.1
  have l2 := t.2.2.2
  have rng := t.rng q
  -- the end: the place behind is the token's end
  have END : ∀ {r : gMem} {e : Nat}, Ex (Tk h) s r → mI r h 49 = e → e ≤ 500 → (∀ r', Ex (Tk h) s r' → mI r' h 46 = e → (∀ k, k ≠ 46 → mI r' h k = mI r h k) → LX r' h bA all q) → Ev (gLet (wI r h 46 (mI r h 49)) (fun s40 => some s40)) (fun r => Ex (Tk h) s r ∧ LX r h bA all q) := by
    intro r e X h49 he k
    have X2 : Ex (Tk h) s (wI r h 46 (mI r h 49)) := X.I (by unfold Tk; omega)
    refine Ev.l (Ev.r ⟨X2, k _ X2 ?_ (fun j hj => mIwI1 (by omega))⟩)
    rw [mI_wI, if_pos ⟨rfl, rfl⟩, h49, w32_i (by omega) (by omega)]
  rw [g46]
  refine Ev.e (t_byteAt c q) ?_
  by_cases b0 : bA q = -1
  · have kk : tkK bA q = 0 := by unfold tkK; rw [if_pos b0]
    refine Ev.f (fun z => z b0) (Ev.c (t_is (by decide) (by omega)) (fun r _ z => ?_))
    have c2 := c.tk z.1
    rw [c2.2.1]
    have X1 : Ex (Tk h) s (wI r h 48 (all : Int)) := z.1.I (by unfold Tk; omega)
    refine Ev.l (END X1 (e := q) ?_ (by omega) (fun r' X' h46 hk => ?_))
    · rw [mIwI1 (by omega)]; exact z.2.2.1
    · have f : ∀ k, k ≠ 46 → k ≠ 48 → mI r' h k = mI r h k := fun k h1 h2 => by rw [hk k h1, mIwI1 (by omega)]
      refine ⟨?_, ?_, ?_, fun y => ?_, fun y => ?_, fun y => ?_, fun y => ?_, fun y => ?_, fun y => ?_, fun y => ?_⟩
      · rw [f 47 (by decide) (by decide), kk]; exact z.2.1
      · rw [hk 48 (by decide), mI_wI, if_pos ⟨rfl, rfl⟩, if_pos b0, w32_i (by omega) (by omega)]
      · rw [h46, f 49 (by decide) (by decide)]; exact z.2.2.1.symm
      all_goals (rw [kk] at y; omega)
  · refine Ev.g b0 (Ev.e (t_isDigit _) ?_)
    have e48 : (if bA q = -1 then (all : Int) else (q : Int)) = q := if_neg b0
    cases b1 : isD (bA q) with
    | true =>
      have kk : tkK bA q = 1 := by unfold tkK; rw [if_neg b0, b1, if_pos rfl]
      refine Ev.f (by decide) ?_
      obtain ⟨e, F⟩ := Fst.ex (P := isD) t rfl q
      have el := F.le t rfl
      have q1 := F.1
      unfold tw_numberToken
      rw [g46]
      refine Ev.c (Ψ := fun r => Ex (Tk h) s r ∧ mI r h 47 = 1 ∧ mI r h 49 = e ∧ mI r h 46 = mI s h 46 ∧ mI r h 48 = mI s h 48 ∧ mI r h 51 = if e - q ≤ 15 then -1 else ((q + 15 : Nat) : Int)) (t_num_l (e := e) c (by omega) ?_ (e - q) q N (by omega) (by omega) F) (fun r _ z => ?_)
      · rw [g46, w32_i (by omega) (by omega)]
        by_cases d : e - q ≤ 15
        · rw [if_pos d]
          refine Ev.g (by omega) (Ev.c (t_is (by decide) (by omega)) (fun r _ z => Ev.r ⟨z.1, z.2.1, z.2.2.1, z.2.2.2.1.trans g46, z.2.2.2.2.1, by rw [z.2.2.2.2.2.1]; exact g51⟩))
        · rw [if_neg d, w32_i (by omega) (by omega)]
          have X1 : Ex (Tk h) s (wI s h 51 ((q : Int) + 15)) := Ex.rf.I (by unfold Tk; omega)
          refine Ev.f (by omega) (Ev.l (Ev.c (t_is (by decide) (by omega)) (fun r _ z => Ev.r ⟨X1.tr z.1, z.2.1, z.2.2.1, ?_, ?_, ?_⟩)))
          · rw [z.2.2.2.1, mIwI1 (by omega)]; exact g46
          · rw [z.2.2.2.2.1, mIwI1 (by omega)]
          · rw [z.2.2.2.2.2.1, mI_wI, if_pos ⟨rfl, rfl⟩, w32_i (by omega) (by omega)]; omega
      · refine END z.1 (e := e) z.2.2.1 (by omega) (fun r' X' h46 hk => ?_)
        refine ⟨?_, ?_, ?_, fun y => ?_, fun y => ?_, fun y => ?_, fun y => ?_, fun y => ?_, fun y => ⟨e, F, ?_, ?_⟩, fun y => ?_⟩
        · rw [hk 47 (by decide), kk]; exact z.2.1
        · rw [hk 48 (by decide), z.2.2.2.2.1, g48, e48]
        · rw [h46, hk 49 (by decide)]; exact z.2.2.1.symm
        all_goals first | (exfalso; rw [kk] at y; omega) | skip
        · rw [hk 49 (by decide)]; exact z.2.2.1
        · rw [hk 51 (by decide)]; exact z.2.2.2.2.2
    | false =>
      refine Ev.g rfl ?_
      by_cases b2 : bA q = 34
      · have kk : tkK bA q = 2 := by unfold tkK; rw [if_neg b0, b1, if_neg (by decide), if_pos b2]
        refine Ev.f (fun z => z b2) ?_
        unfold tw_textToken
        rw [g46, inc32 (by omega)]
        have X0 : ∀ {r}, (Ex (Tk h) s r ∧ mI r h 47 = 2 ∧ mI r h 49 = ((q + 1 : Nat) : Int) ∧ mI r h 46 = mI s h 46 ∧ mI r h 48 = mI s h 48 ∧ mI r h 51 = mI s h 51 ∧ mI r h 52 = mI s h 52 ∧ mI r h 53 = mI s h 53 ∧ mI r h 54 = mI s h 54) → Ev (tw_textToken_l13 N h (fun y24 s25 => gLet (wI s25 h 49 (w32 (y24 + 1))) (fun s27 => some s27)) N ((q + 1 : Nat) : Int) r) (fun r' => Ex (Tk h) s r' ∧ mI r' h 47 = 2 ∧ mI r' h 46 = mI s h 46 ∧ mI r' h 48 = mI s h 48 ∧ (∃ e : Nat, e ≤ 500 ∧ mI r' h 49 = e) ∧ (∀ w, qtS bA all q = .inl w → mI r' h 51 = (w : Int)) ∧ ∀ e, qtS bA all q = .inr e → mI r' h 51 = -1 ∧ mI r' h 49 = ((e + 1 : Nat) : Int)) := by
          intro r z
          refine t_txt_l (q := q) (bA := bA) (hi := hi) (all := all) q4 (fun p s' hp X hw he => ?_) (c.tk z.1) (by rw [z.2.2.2.1]; exact g46) (by rw [z.2.2.2.2.2.1, g51]; decide) 30 (q + 1) N (by omega) (by omega) (by omega) (by omega) (Or.inl (by omega)) rfl (by omega)
          rw [inc32 (by omega)]
          have X' : Ex (Tk h) r s' := X.mono (fun a k y => by unfold Tk; omega)
          have f : ∀ k, k ≠ 49 → k ≠ 51 → mI (wI s' h 49 ((p + 1 : Nat) : Int)) h k = mI r h k := fun k h1 h2 => by rw [mIwI1 (by omega), X.rI (by omega)]
          have f49 : mI (wI s' h 49 ((p + 1 : Nat) : Int)) h 49 = ((p + 1 : Nat) : Int) := by rw [mI_wI, if_pos ⟨rfl, rfl⟩, w32_i (by omega) (by omega)]
          have f51 : mI (wI s' h 49 ((p + 1 : Nat) : Int)) h 51 = mI s' h 51 := mIwI1 (by omega)
          refine Ev.l (Ev.r ⟨(z.1.tr X').I (by unfold Tk; omega), ?_, ?_, ?_, ⟨p + 1, by omega, f49⟩, fun w hw' => ?_, fun e he' => ?_⟩)
          · rw [f 47 (by decide) (by decide)]; exact z.2.1
          · rw [f 46 (by decide) (by decide)]; exact z.2.2.2.1
          · rw [f 48 (by decide) (by decide)]; exact z.2.2.2.2.1
          · rw [f51]; exact hw w hw'
          · obtain ⟨y1, y2⟩ := he e he'
            rw [f51, f49, y1, y2, z.2.2.2.2.2.1]
            exact ⟨g51, rfl⟩
        refine Ev.c (Ψ := fun r' => Ex (Tk h) s r' ∧ mI r' h 47 = 2 ∧ mI r' h 46 = mI s h 46 ∧ mI r' h 48 = mI s h 48 ∧ (∃ e : Nat, e ≤ 500 ∧ mI r' h 49 = e) ∧ (∀ w, qtS bA all q = .inl w → mI r' h 51 = (w : Int)) ∧ ∀ e, qtS bA all q = .inr e → mI r' h 51 = -1 ∧ mI r' h 49 = ((e + 1 : Nat) : Int)) (Ev.c (t_is (by decide) (by omega)) (fun r _ z => X0 z)) (fun r _ z => ?_)
        obtain ⟨z1, z2, z3, z4, ⟨e, z5, z6⟩, z7, z8⟩ := z
        refine END z1 z6 z5 (fun r' X' h46 hk => ?_)
        refine ⟨?_, ?_, ?_, fun y => ?_, fun y => ?_, fun y => ?_, fun y => ?_, fun y => ?_, fun y => ?_, fun y => ⟨fun w hw => ?_, fun e he => ?_⟩⟩
        · rw [hk 47 (by decide), kk]; exact z2
        · rw [hk 48 (by decide), z4, g48, e48]
        · rw [h46, hk 49 (by decide)]; exact z6.symm
        all_goals first | (exfalso; rw [kk] at y; omega) | skip
        · rw [hk 51 (by decide)]; exact z7 w hw
        · rw [hk 51 (by decide), hk 49 (by decide)]; exact z8 e he
      · refine Ev.g b2 (Ev.e (t_isLetter _) ?_)
        have WT : (isL (bA q) = true ∨ bA q = 36) → Ev (tw_next_j113 N h (bA q) s) (fun r => Ex (Tk h) s r ∧ LX r h bA all q) := by
          intro hw
          unfold tw_next_j113 tw_wordToken
          rw [g46]
          have kk : tkK bA q = if isC bA q then 3 else if bA q = 36 then 10 else 4 := by unfold tkK; rw [if_neg b0, b1, if_neg (by decide), if_neg b2, if_pos hw]
          refine Ev.c (Ψ := fun r => Ex (Tk h) s r ∧ mI r h 47 = tkK bA q ∧ mI r h 46 = mI s h 46 ∧ mI r h 48 = mI s h 48 ∧ ∃ e : Nat, e ≤ 500 ∧ mI r h 49 = e ∧ (tkK bA q = 4 → Fst isL bA q e) ∧ (tkK bA q = 3 → e = ck3 bA q ∧ mI r h 52 = cRow bA q ∧ mI r h 53 = cCol bA q ∧ mI r h 54 = cFix bA q)) (Ev.c (t_corner hN c (by omega)) (fun r2 _ y => ?_)) (fun r _ z => ?_)
          · obtain ⟨y1, y2, y3⟩ := y
            have X2 : Ex (Tk h) s r2.2 := y1.mono (fun a k z => by unfold Tk; omega)
            have u : ∀ k, k < 52 → mI r2.2 h k = mI s h k := fun k hk => y1.rI (by omega)
            cases hc : isC bA q with
            | true =>
              rw [hc, if_pos rfl] at kk y2
              obtain ⟨w1, w2, w3, w4⟩ := y3 hc
              have L := ck_le bA q
              rw [w4]
              refine Ev.f (by rw [y2]; decide) (Ev.c (t_is (by decide) (by omega)) (fun r _ z => Ev.r ⟨X2.tr z.1, by rw [kk]; exact z.2.1, by rw [z.2.2.2.1]; exact u 46 (by omega), by rw [z.2.2.2.2.1]; exact u 48 (by omega), ck3 bA q, by omega, z.2.2.1, fun v => ?_, fun _ => ⟨rfl, ?_, ?_, ?_⟩⟩))
              · rw [kk] at v; cases v
              · rw [z.2.2.2.2.2.2.1]; exact w1
              · rw [z.2.2.2.2.2.2.2.1]; exact w2
              · rw [z.2.2.2.2.2.2.2.2]; exact w3
            | false =>
              rw [hc, if_neg (by decide)] at kk y2
              refine Ev.g y2 ?_
              rw [u 46 (by omega), g46]
              by_cases b3 : bA q = 36
              · rw [if_pos b3] at kk
                refine Ev.f (fun z => z b3) ?_
                rw [inc32 (by omega)]
                refine Ev.c (t_is (by decide) (by omega)) (fun r _ z => Ev.r ⟨X2.tr z.1, by rw [kk]; exact z.2.1, by rw [z.2.2.2.1, u 46 (by omega)]; exact g46, by rw [z.2.2.2.2.1]; exact u 48 (by omega), q + 1, by omega, z.2.2.1, fun v => ?_, fun v => ?_⟩)
                · rw [kk] at v; cases v
                · rw [kk] at v; cases v
              · rw [if_neg b3] at kk
                obtain ⟨e, F⟩ := Fst.ex (P := isL) t rfl q
                have el := F.le t rfl
                have q1 := F.1
                refine Ev.g b3 (t_wrd_l (e := e) (c.tk X2) (by omega) ?_ (e - q) q N (by omega) (by omega) F)
                refine Ev.c (t_is (by decide) (by omega)) (fun r _ z => Ev.r ⟨X2.tr z.1, by rw [kk]; exact z.2.1, by rw [z.2.2.2.1, u 46 (by omega)]; exact g46, by rw [z.2.2.2.2.1]; exact u 48 (by omega), e, by omega, z.2.2.1, fun _ => F, fun v => ?_⟩)
                rw [kk] at v; cases v
          · obtain ⟨z1, z2, z3, z4, e, z5, z6, z7, z8⟩ := z
            have kr : tkK bA q = 3 ∨ tkK bA q = 10 ∨ tkK bA q = 4 := by
              rw [kk]
              split
              · exact Or.inl rfl
              · split
                · exact Or.inr (Or.inl rfl)
                · exact Or.inr (Or.inr rfl)
            refine END z1 z6 z5 (fun r' X' h46 hk => ?_)
            refine ⟨?_, ?_, ?_, fun y => ?_, fun y => ?_, fun y => ?_, fun y => ⟨e, z7 y, ?_⟩, fun y => ?_, fun y => ?_, fun y => ?_⟩
            · rw [hk 47 (by decide)]; exact z2
            · rw [hk 48 (by decide), z4, g48, e48]
            · rw [h46, hk 49 (by decide)]; exact z6.symm
            all_goals first | (exfalso; omega) | skip
            · rw [hk 49 (by decide)]; exact z6
            · obtain ⟨v1, v2, v3, v4⟩ := z8 y
              rw [hk 49 (by decide), hk 52 (by decide), hk 53 (by decide), hk 54 (by decide), z6, v1]
              exact ⟨rfl, v2, v3, v4⟩
        have SG : isL (bA q) = false → bA q ≠ 36 → isRf bA q = false → Ev (tw_next_j156 N h (bA q) s) (fun r => Ex (Tk h) s r ∧ LX r h bA all q) := by
          intro s1 s2 s3
          have kk : tkK bA q = (sgO (bA q) (bA (q + 1))).1 := by
            unfold tkK
            rw [if_neg b0, b1, if_neg (by decide), if_neg b2, if_neg (by rw [s1]; exact fun z => z.elim (fun z => (by cases z)) s2), s3, if_neg (by decide)]
          have sk := sgO_k (bA q) (bA (q + 1))
          unfold tw_next_j156
          refine Ev.c (t_signToken c g46 q4) (fun r _ z => ?_)
          obtain ⟨z1, z2, z3, z4, z5, z6, z7⟩ := z
          refine END z1 z4 (by omega) (fun r' X' h46 hk => ?_)
          refine ⟨?_, ?_, ?_, fun y => ⟨?_, ?_⟩, fun y => ?_, fun y => ?_, fun y => ?_, fun y => ?_, fun y => ?_, fun y => ?_⟩
          · rw [hk 47 (by decide), kk]; exact z2
          · rw [hk 48 (by decide), z6, g48, e48]
          · rw [h46, hk 49 (by decide)]; exact z4.symm
          · rw [hk 50 (by decide)]; exact z3 (by omega)
          · rw [hk 49 (by decide)]; exact z4
          · rw [hk 49 (by decide), z4, sk.2.1 (by omega)]
          all_goals (exfalso; omega)
        cases b4 : isL (bA q) with
        | true => exact Ev.g (by decide) (WT (Or.inl b4))
        | false =>
          refine Ev.f (by decide) ?_
          by_cases b5 : bA q = 36
          · exact Ev.f (fun z => z b5) (WT (Or.inr b5))
          · refine Ev.g b5 ?_
            by_cases b6 : bA q = 35
            · refine Ev.f (fun z => z b6) ?_
              obtain ⟨b, y1, y2⟩ := t_isWord (n := 4) (p := q) hN c kx (by decide) q4 (by omega)
              refine Ev.e y1 ?_
              rw [← isRf_wd] at y2
              cases b with
              | false => exact Ev.g rfl (SG b4 b5 (by cases e : isRf bA q with | false => rfl | true => exact absurd (y2.mpr e) (by decide)))
              | true =>
                have rf := y2.mp rfl
                have kk : tkK bA q = 5 := by
                  unfold tkK
                  rw [if_neg b0, b1, if_neg (by decide), if_neg b2, if_neg (by rw [b4]; exact fun z => z.elim (fun z => (by cases z)) b5), rf, if_pos rfl]
                have e4 : w32 ((q : Int) + 4) = ((q + 4 : Nat) : Int) := by rw [w32_i (by omega) (by omega)]; omega
                rw [e4]
                refine Ev.f (by decide) (Ev.c (t_is (by decide) (by omega)) (fun r _ z => ?_))
                refine END z.1 z.2.2.1 (by omega) (fun r' X' h46 hk => ?_)
                refine ⟨?_, ?_, ?_, fun y => ?_, fun y => ?_, fun y => ?_, fun y => ?_, fun y => ?_, fun y => ?_, fun y => ?_⟩
                · rw [hk 47 (by decide), kk]; exact z.2.1
                · rw [hk 48 (by decide), z.2.2.2.2.1, g48, e48]
                · rw [h46, hk 49 (by decide)]; exact z.2.2.1.symm
                all_goals first | (exfalso; rw [kk] at y; omega) | skip
                · rw [hk 49 (by decide)]; exact z.2.2.1
            · exact Ev.g b6 (SG b4 b5 (decide_eq_false (fun z => b6 z.1)))
theorem t_next_l {K : gMem → Option gMem} {Φ : gMem → Prop} {q : Nat} (q4 : q ≤ 400) (hK : ∀ s, Ex (Tk h) τ s → mI s h 46 = q → TSt s h bA hi all → Ev (K s) Φ) : ∀ (m p f : Nat) (s : gMem), p + m = q → m < f → Fst isBl bA p q → Ex (Tk h) τ s → mI s h 46 = p → TSt s h bA hi all → Ev (tw_next_l0 N h K f s) Φ := by
  intro m
  induction m with
  | zero =>
    intro p f s h1 h2 F X g c
    obtain ⟨f, rfl⟩ : ∃ j, f = j + 1 := ⟨f - 1, by omega⟩
    obtain rfl : p = q := by omega
    unfold tw_next_l0
    rw [g]
    exact Ev.e (t_byteAt c p) (Ev.g (fun z => by have := F.2.2; unfold isBl at this; exact of_decide_eq_false this z) (hK s X g c))
  | succ m ih =>
    intro p f s h1 h2 F X g c
    obtain ⟨f, rfl⟩ : ∃ j, f = j + 1 := ⟨f - 1, by omega⟩
    have X1 : Ex (Tk h) s (wI s h 46 ((p + 1 : Nat) : Int)) := Ex.rf.I (by unfold Tk; omega)
    unfold tw_next_l0
    rw [g, inc32 (by omega)]
    refine Ev.e (t_byteAt c p) (Ev.f (fun z => z (of_decide_eq_true (F.2.1 p (Nat.le_refl _) (by omega)))) (Ev.l (ih (p + 1) f _ (by omega) (by omega) ⟨by omega, fun k k1 k2 => F.2.1 k (by omega) k2, F.2.2⟩ (X.tr X1) ?_ (c.tk X1))))
    rw [mI_wI, if_pos ⟨rfl, rfl⟩, w32_i (by omega) (by omega)]
/-- the twin's next token -/
theorem t_next (hN : 500 ≤ N) (c : TSt τ h bA hi all) (kx : Kx τ (mR τ 0 100) refT) (c0 : mR τ 0 100 ≠ h) (g : mI τ h 46 = p) (F : Fst isBl bA p q) (p4 : p ≤ 400) : Ev (tw_next N h τ) (fun r => Ex (Tk h) τ r ∧ LX r h bA all q) := by
  have t := c.2.2.2
  have l1 := t.2.2.1
  have l2 := t.2.2.2
  have ql := F.le t rfl
  have q1 := F.1
  have DO : ∀ s, Ex (Tk h) τ s → mI s h 46 = q → TSt s h bA hi all → ∀ s8, s8 = wI (wI s h 48 (mI s h 46)) h 51 (-1) → Ex (Tk h) τ s8 ∧ TSt s8 h bA hi all ∧ Kx s8 (mR s8 0 100) refT ∧ mI s8 h 46 = q ∧ mI s8 h 48 = q ∧ mI s8 h 51 = -1 := by
    intro s X g' c' s8 e
    have X8 : Ex (Tk h) s s8 := by rw [e]; exact (Ex.rf.I (by unfold Tk; omega)).I (by unfold Tk; omega)
    have X9 := X.tr X8
    refine ⟨X9, c'.tk X8, ?_, ?_, ?_, ?_⟩
    · obtain ⟨k1, k2, k3⟩ := kx
      rw [X9.rR]
      exact ⟨by rw [X9.rT]; exact k1, by rw [X9.rN]; exact k2, fun j hj => by rw [X9.rI (fun z => c0 z.1)]; exact k3 j hj⟩
    · rw [e]; simp (disch := omega) only [mIwI1]; exact g'
    · rw [e, g']; simp (disch := omega) only [mIwI1, mIwI2, w32_i]
    · rw [e]; simp (disch := omega) only [mIwI2, w32_i]
  unfold tw_next
  rw [g]
  refine Ev.e (t_byteAt c p) ?_
  cases e : isBl (bA p) with
  | false =>
    have pq : q = p := F.uniq (Fst.rf e)
    subst pq
    refine Ev.g (of_decide_eq_false e) (Ev.l (Ev.l ?_))
    obtain ⟨d1, d2, d3, d4, d5, d6⟩ := DO τ Ex.rf g c _ (by rw [g])
    exact (t_disp hN d2 d3 d4 d5 d6 (by omega)).m (fun r z => ⟨d1.tr z.1, z.2⟩)
  | true =>
    have pq : p ≠ q := fun z => by have := F.2.2; rw [← z, e] at this; cases this
    rw [inc32 (by omega)]
    have X1 : Ex (Tk h) τ (wI τ h 46 ((p + 1 : Nat) : Int)) := Ex.rf.I (by unfold Tk; omega)
    refine Ev.f (fun z => z (of_decide_eq_true e)) (Ev.l (t_next_l (τ := τ) (q := q) (bA := bA) (hi := hi) (all := all) (by omega) (fun s X g' c' => ?_) (q - (p + 1)) (p + 1) N _ (by omega) (by omega) ⟨by omega, fun k k1 k2 => F.2.1 k (by omega) k2, F.2.2⟩ X1 ?_ (c.tk X1)))
    · obtain ⟨d1, d2, d3, d4, d5, d6⟩ := DO s X g' c' _ rfl
      exact Ev.l (Ev.l ((t_disp hN d2 d3 d4 d5 d6 (by omega)).m (fun r z => ⟨d1.tr z.1, z.2⟩)))
    · rw [mI_wI, if_pos ⟨rfl, rfl⟩, w32_i (by omega) (by omega)]
end Read3
