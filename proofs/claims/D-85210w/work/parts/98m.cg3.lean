/-! ===== PHASE 2: the component's graph: the walk ===== -/
section CoGraph3
variable {N L : Nat} {σ σ' s : gMem} {E : Nat → Nat → Prop} {op pa od : List Nat}
def Lv (L a k : Nat) : Prop := a = L + 2 ∨ a = L + 8 ∨ a = L + 9 ∨ (a = L ∧ (k = 10 ∨ k = 12))
theorem c_leave {a : Nat} (hN : 400 ≤ N) (ts : TGs s L E op (a :: pa) od) : Ev (x4_leave N L a s) (fun r => Ex (Lv L) s r ∧ ((r = s ∧ mI s (L + 4) a ≠ mI s (L + 3) a) ∨ (mI s (L + 4) a = mI s (L + 3) a ∧ ∃ l op2, op = l ++ a :: op2 ∧ TGm r L E op2 (od ++ (l ++ [a])) ∧ (∀ v, v ∉ l → v ≠ a → ciM r L v = ciM s L v) ∧ ∀ v, v ∈ l ∨ v = a → (ciM r L v = true ↔ l ≠ [] ∨ E a a)))) := by
  obtain ⟨tm, ap, ti, nx⟩ := ts
  have tm0 := tm
  obtain ⟨lk, ao, ho, io, ad, hd, bt⟩ := tm
  obtain ⟨le, nd, -, -⟩ := ti.len
  have aop : a ∈ op := ti.2.2.2.1 a List.mem_cons_self
  have vb : ∀ v, v ∈ op → v < 320 := fun v hv => (ti.1 v hv).1
  have a3 := vb a aop
  obtain ⟨⟨t0, r0, r1, r2, r3, r4, r5, r6, r7, r8⟩, ⟨t1, t2, t3, t4, t5, t6, t7, t8, t9⟩, n1, n2, n3, n4, n5, n6, n7, n8, n9⟩ := lk.f
  unfold x4_leave
  rw [r2, r3, n4, n3, tn]
  refine Ev.g t0 (Ev.g t4 (Ev.g (by omega) (Ev.g t3 (Ev.g (by omega) ?_))))
  by_cases c : mI s (L + 4) a = mI s (L + 3) a
  · refine Ev.g c ?_
    obtain ⟨l, op2, rfl⟩ := List.append_of_mem aop
    have na : a ∉ l := fun q => by
      have := (List.nodup_append.mp nd).2.2 a q a List.mem_cons_self
      exact this rfl
    rw [List.length_append, List.length_cons] at ho le
    rw [r6, n7, ho]
    refine Ev.g t7 (Ev.g (by omega) ?_)
    have eT : (((l.length + (op2.length + 1) : Nat) : Int) - 1).toNat = l.length + op2.length := by omega
    rw [eT]
    -- what follows, with the mark t
    have J : ∀ t : Int, (t = 0 ∨ t = 1) → (t = 1 ↔ l ≠ [] ∨ E a a) → Ev (x4_leave_j45 N L a t s) (fun r => Ex (Lv L) s r ∧ ((r = s ∧ mI s (L + 4) a ≠ mI s (L + 3) a) ∨ (mI s (L + 4) a = mI s (L + 3) a ∧ ∃ l' op2', l ++ a :: op2 = l' ++ a :: op2' ∧ TGm r L E op2' (od ++ (l' ++ [a])) ∧ (∀ v, v ∉ l' → v ≠ a → ciM r L v = ciM s L v) ∧ ∀ v, v ∈ l' ∨ v = a → (ciM r L v = true ↔ l' ≠ [] ∨ E a a)))) := by
      intro t ht hr
      unfold x4_leave_j45
      refine (c_leave_l (σ := s) (od := od) (a := a) (t := t) (op2 := op2) lk ht l [] s N ⟨Ex.rf, ao, ?_, io, ?_, ?_, fun v => ?_, nd, vb, ?_⟩ na (by omega)).m (fun r p => ?_)
      · rw [List.length_append, List.length_cons]; exact ho
      · rw [List.append_nil]; exact ad
      · rw [List.append_nil]; exact hd
      · rw [if_neg (fun z => by cases z)]
      · rw [List.append_nil, List.length_append, List.length_cons]; omega
      · obtain ⟨X, ao', ho', io', ad', hd', ci', -, -, -⟩ := p
        rw [List.nil_append] at ad' hd' ci'
        refine ⟨X, Or.inr ⟨c, l, op2, rfl, ⟨lk.ex X, ao', ho', io', ad', hd', fun p q hp hq => ?_⟩, fun v h1 h2 => ?_, fun v h1 => ?_⟩⟩
        · rw [BT.ex X (fun k => by omega)]; exact bt p q hp hq
        · unfold ciM
          rw [ci' v, if_neg (fun z => (List.mem_append.mp z).elim h1 (fun z => h2 (List.mem_singleton.mp z)))]
        · unfold ciM
          rw [ci' v, if_pos (List.mem_append.mpr (h1.imp id (fun z => by rw [z]; exact List.mem_cons_self))), ← hr]
          rw [decide_eq_true_iff]; omega
    cases l with
    | nil =>
      have hv := ao.1
      rw [List.length_nil, Nat.zero_add, hv]
      refine Ev.f (fun z => z rfl) (Ev.e (c_leads lk a3 a3) ?_)
      cases hB : BT s (L + 1) a a with
      | true =>
        rw [if_pos rfl]
        refine Ev.f (by decide) ?_
        unfold x4_leave_j40
        exact J 1 (Or.inr rfl) ⟨fun _ => Or.inr ((bt a a a3 a3).mp hB), fun _ => rfl⟩
      | false =>
        refine Ev.g rfl (J 0 (Or.inl rfl) ⟨fun z => by omega, fun z => ?_⟩)
        rcases z with z | z
        · exact absurd rfl z
        · rw [(bt a a a3 a3).mpr z] at hB; cases hB
    | cons v r =>
      have hv : mI s (L + 7) ((v :: r).length + op2.length) = (v : Int) := by
        have := ao.1
        change mI s (L + 7) (r ++ a :: op2).length = _ at this
        rw [List.length_append, List.length_cons] at this
        rw [List.length_cons, ← this]
        congr 1; omega
      rw [hv]
      refine Ev.g (fun z => na (by rw [Int.ofNat.inj z]; exact List.mem_cons_self)) ?_
      unfold x4_leave_j40
      exact J 1 (Or.inr rfl) ⟨fun _ => Or.inl (List.cons_ne_nil _ _), fun _ => rfl⟩
  · exact Ev.f c (Ev.r ⟨Ex.rf, Or.inl ⟨rfl, c⟩⟩)
/-- a sum over the first n -/
def sumF (f : Nat → Nat) : Nat → Nat
  | 0 => 0
  | n + 1 => sumF f n + f n
theorem sumF_le {f g : Nat → Nat} : ∀ n, (∀ i, i < n → f i ≤ g i) → sumF f n ≤ sumF g n := by
  intro n
  induction n with
  | zero => intro _; exact Nat.le_refl _
  | succ n ih =>
    intro h
    have := ih (fun i hi => h i (by omega))
    have := h n (by omega)
    unfold sumF; omega
theorem sumF_lt {f g : Nat → Nat} : ∀ n, (∀ i, i < n → f i ≤ g i) → (∃ i, i < n ∧ f i < g i) → sumF f n < sumF g n := by
  intro n
  induction n with
  | zero => rintro _ ⟨i, h, _⟩; omega
  | succ n ih =>
    rintro h ⟨i, h1, h2⟩
    have a := h n (by omega)
    have b := sumF_le n (fun i hi => h i (by omega))
    unfold sumF
    by_cases c : i = n
    · subst c; omega
    · have := ih (fun i hi => h i (by omega)) ⟨i, by omega, h2⟩; omega
theorem sumF_b {f : Nat → Nat} {c : Nat} : ∀ n, (∀ i, i < n → f i ≤ c) → sumF f n ≤ c * n := by
  intro n
  induction n with
  | zero => intro _; exact Nat.le_refl _
  | succ n ih =>
    intro h
    have := ih (fun i hi => h i (by omega))
    have := h n (by omega)
    unfold sumF; rw [Nat.mul_succ]; omega
/-- what is left of the walk -/
def wgt (s : gMem) (L : Nat) (pa : List Nat) (v : Nat) : Nat := if mI s (L + 3) v = -1 then 322 else if v ∈ pa then (321 - mI s (L + 5) v).toNat else 0
theorem wgt_b {pa : List Nat} (v : Nat) (h : v ∈ pa → 0 ≤ mI s (L + 5) v) : wgt s L pa v ≤ 322 := by
  unfold wgt
  split
  · omega
  · split
    · have := h ‹_›; omega
    · omega
/-- who is met: all are of Q, and no one is forgotten -/
def VQ (L : Nat) (Q : Nat → Prop) (σ0 s : gMem) : Prop := (∀ v, v < 320 → mI s (L + 3) v ≠ -1 → Q v) ∧ ∀ v, mI σ0 (L + 3) v ≠ -1 → mI s (L + 3) v ≠ -1
theorem VQ.cg {Q : Nat → Prop} {σ0 s r : gMem} (h : VQ L Q σ0 s) (e : mI r (L + 3) = mI s (L + 3)) : VQ L Q σ0 r := by unfold VQ; rw [e]; exact h
theorem c_walk_l {σ0 : gMem} {Q : Nat → Prop} (hN : 400 ≤ N) (hE : ∀ a b, E a b → a < 320 ∧ b < 320) (hQ : ∀ a b, E a b → Q b) : ∀ (M : Nat) (s : gMem) (op pa od : List Nat) (f : Nat) (d : Int), d = (pa.length : Int) - 1 → sumF (wgt s L pa) 320 ≤ M → M + 1 < f → Ex (Lq L) σ0 s → VQ L Q σ0 s → TGs s L E op pa od → Ev (x4_walk_l14 N L (fun s40 => some s40) f d s) (fun r => Ex (Lq L) σ0 r ∧ VQ L Q σ0 r ∧ ∃ od', TGs r L E [] [] od') := by
  have base : ∀ (s : gMem) (op od : List Nat) (f : Nat), Ex (Lq L) σ0 s → VQ L Q σ0 s → TGs s L E op [] od → Ev (x4_walk_l14 N L (fun s40 => some s40) (f + 1) (-1) s) (fun r => Ex (Lq L) σ0 r ∧ VQ L Q σ0 r ∧ ∃ od', TGs r L E [] [] od') := by
    intro s op od f X vq ts
    have := ts.2.2.1.none
    subst this
    unfold x4_walk_l14
    exact Ev.g (by decide) (Ev.r ⟨X, vq, od, ts⟩)
  intro M
  induction M with
  | zero =>
    intro s op pa od f d hd hM hf X vq ts
    obtain ⟨f, rfl⟩ : ∃ j, f = j + 1 := ⟨f - 1, by omega⟩
    cases pa with
    | nil => rw [show d = -1 from hd]; exact base s op od f X vq ts
    | cons a pa =>
      exfalso
      have aop := ts.2.2.1.2.2.2.1 a List.mem_cons_self
      have h1 := ts.2.2.1.1 a aop
      have h2 := ts.2.2.2 a aop
      have : 0 < sumF (wgt s L (a :: pa)) 320 := by
        have := sumF_lt (f := fun _ => 0) (g := wgt s L (a :: pa)) 320 (fun i _ => Nat.zero_le _) ⟨a, h1.1, by
          unfold wgt
          rw [if_neg (by omega), if_pos List.mem_cons_self]; omega⟩
        omega
      omega
  | succ M ih =>
    intro s op pa od f d hd hM hf X vq ts
    obtain ⟨f, rfl⟩ : ∃ j, f = j + 1 := ⟨f - 1, by omega⟩
    cases pa with
    | nil => rw [show d = -1 from hd]; exact base s op od f X vq ts
    | cons a pa =>
      have ts0 := ts
      obtain ⟨tm, ap, ti, nx⟩ := ts
      have tm0 := tm
      obtain ⟨lk, ao, ho, io, ad, hdd, bt⟩ := tm
      have hl := ti.len
      have aop := ti.2.2.2.1 a List.mem_cons_self
      have a1 := ti.1 a aop
      have a3 : a < 320 := a1.1
      have hx := nx a aop
      rw [List.length_cons] at hd hl
      have hd' : d = (pa.length : Int) := by omega
      subst hd'
      have pl3 : pa.length < 320 := by omega
      have hp : mI s (L + 6) pa.length = (a : Int) := ap.1
      obtain ⟨j, hj⟩ : ∃ j : Nat, mI s (L + 5) a = j := ⟨(mI s (L + 5) a).toNat, by omega⟩
      have lkf := lk.f
      obtain ⟨⟨t0, r0, r1, r2, r3, r4, r5, r6, r7, r8⟩, ⟨t1, t2, t3, t4, t5, t6, t7, t8, t9⟩, n1, n2, n3, n4, n5, n6, n7, n8, n9⟩ := lkf
      unfold x4_walk_l14
      rw [r5, r4, n6, n5, tn, hp, tn, hj]
      refine Ev.f (by omega) (Ev.g t0 (Ev.g t6 (Ev.g (by omega) (Ev.g t5 (Ev.g (by omega) (Ev.c (c_first lk (by omega) a3 (by omega)) (fun x _ hx2 => ?_)))))))
      rcases hx2 with ⟨rfl, hx2⟩ | ⟨b, rfl, b1, b2, b3, b4⟩
      · -- left
        have hn : ∀ w, E a w → (w : Int) < mI s (L + 5) a := fun w e => by
          rw [hj]
          have wb := (hE a w e).2
          by_cases c : j ≤ w
          · have := hx2 w c wb
            rw [(bt a w a3 wb).mpr e] at this; cases this
          · omega
        refine Ev.f (fun z => z rfl) (Ev.c (c_leave hN ts0) (fun x30 _ u => ?_))
        obtain ⟨X2, hu⟩ := u
        have lk2 := lk.ex X2
        have e3 : mI x30 (L + 3) = mI s (L + 3) := by funext v; exact X2.rI (by unfold Lv; omega)
        have e4 : mI x30 (L + 4) = mI s (L + 4) := by funext v; exact X2.rI (by unfold Lv; omega)
        have e5 : mI x30 (L + 5) = mI s (L + 5) := by funext v; exact X2.rI (by unfold Lv; omega)
        have e6 : mI x30 (L + 6) = mI s (L + 6) := by funext v; exact X2.rI (by unfold Lv; omega)
        have e11 : mI x30 L 11 = mI s L 11 := X2.rI (by unfold Lv; omega)
        have Xq : Ex (Lq L) σ0 x30 := X.tr (X2.mono (fun a k p => by unfold Lv at p; unfold Lq; omega))
        -- the state behind, for any low of the one ahead
        have FIN : ∀ (r : gMem), Ex (fun q k => q = L + 4) x30 r → (∀ v, (∀ q, pa ≠ v :: q) → mI r (L + 4) v = mI x30 (L + 4) v) → (∀ v q, pa = v :: q → mI r (L + 4) v = if mI s (L + 4) a < mI s (L + 4) v then mI s (L + 4) a else mI s (L + 4) v) → ∃ op' od', TGs r L E op' pa od' ∧ ∀ v, v ∈ pa → v ∈ op' := by
          intro r X3 g1 g2
          have g3 : ∀ v, (∀ q, pa ≠ v :: q) → mI r (L + 4) v = mI s (L + 4) v := fun v h => by rw [g1 v h, e4]
          have q3 : mI r (L + 3) = mI s (L + 3) := by funext v; rw [X3.rI (by omega), e3]
          have q5 : mI r (L + 5) = mI s (L + 5) := by funext v; rw [X3.rI (by omega), e5]
          have q11 : mI r L 11 = mI s L 11 := by rw [X3.rI (by omega), e11]
          have q6 : ∀ i, mI r (L + 6) i = mI s (L + 6) i := fun i => by rw [X3.rI (by omega), e6]
          have TGX : ∀ {o d}, TGm x30 L E o d → TGm r L E o d := fun {o d} t => by
            obtain ⟨z1, z2, z3, z4, z5, z6, z7⟩ := t
            refine ⟨z1.ex X3, z2.cg (fun i _ => X3.rI (by omega)), by rw [X3.rI (by omega)]; exact z3, fun v hv => by rw [X3.rI (by omega)]; exact z4 v hv, z5.cg (fun i _ => X3.rI (by omega)), by rw [X3.rI (by omega)]; exact z6, fun p q hp hq => by rw [BT.ex X3 (fun k => by omega)]; exact z7 p q hp hq⟩
          have qc : ciM r L = ciM x30 L := by funext v; unfold ciM; rw [X3.rI (by omega)]
          rcases hu with ⟨rfl, hne⟩ | ⟨heq, l, op2, rfl, tm2, c1, c2⟩
          · have lt : mI x30 (L + 4) a < mI x30 (L + 3) a := by omega
            have T := (TI.back (lo' := mI r (L + 4)) ti hn lt g3 g2).1
            refine ⟨op, od, ⟨TGX tm0, ap.2.cg (fun i _ => q6 i), ?_, fun v hv => by rw [q5]; exact nx v hv⟩, fun v hv => T.2.2.2.1 v hv⟩
            unfold TGj
            rw [q3, q5, q11, qc]; exact T
          · have T := TI.pop (lo' := mI r (L + 4)) (ci' := ciM x30 L) ti hn heq rfl c1 c2 g3 g2
            refine ⟨op2, od ++ (l ++ [a]), ⟨TGX tm2, ap.2.cg (fun i _ => q6 i), ?_, fun v hv => by rw [q5]; exact nx v (List.mem_append_right _ (List.mem_cons_of_mem _ hv))⟩, fun v hv => T.2.2.2.1 v hv⟩
            unfold TGj
            rw [q3, q5, q11, qc]; exact T
        have ew : w32 ((pa.length : Int) + -1) = (pa.length : Int) - 1 := by rw [w32_i (by omega) (by omega)]; omega
        rw [ew]
        have MS : ∀ r, Ex (fun q k => q = L + 4) x30 r → sumF (wgt r L pa) 320 ≤ M := by
          intro r X3
          have := sumF_lt (f := wgt r L pa) (g := wgt s L (a :: pa)) 320 (fun i _ => ?_) ⟨a, a3, ?_⟩
          · omega
          · unfold wgt
            rw [X3.rI (show ¬ (L + 3 = L + 4) by omega), X3.rI (show ¬ (L + 5 = L + 4) by omega), e3, e5]
            split
            · omega
            · split
              · rw [if_pos (List.mem_cons_of_mem _ ‹_›)]; omega
              · omega
          · have nap : a ∉ pa := (List.nodup_cons.mp hl.2.2.2).1
            unfold wgt
            rw [X3.rI (show ¬ (L + 3 = L + 4) by omega), e3, if_neg (show ¬ mI s (L + 3) a = -1 by omega), if_neg nap, if_neg (show ¬ mI s (L + 3) a = -1 by omega), if_pos List.mem_cons_self]; omega
        cases hpa : pa with
        | nil =>
          rw [hpa] at FIN MS
          refine Ev.g (by rw [List.length_nil]; decide) ?_
          obtain ⟨op', od', T, -⟩ := FIN x30 Ex.rf (fun _ _ => rfl) (fun v q e => by cases e)
          exact ih x30 op' [] od' f _ rfl (MS x30 Ex.rf) (by omega) Xq (vq.cg e3) T
        | cons p pt =>
          rw [hpa] at FIN MS ap
          obtain ⟨⟨t0', -, -, -, r3', -, r5', -, -, -⟩, ⟨-, -, -, t4', -, t6', -, -, -⟩, -, -, -, n4', -, n6', -, -, -⟩ := lk2.f
          have p3 : p < 320 := (ti.1 p (ti.2.2.2.1 p (by rw [hpa]; exact List.mem_cons_of_mem _ List.mem_cons_self))).1
          have lpt : pt.length < 320 := by rw [hpa, List.length_cons] at pl3; omega
          have hp' : mI x30 (L + 6) pt.length = (p : Int) := by rw [e6]; exact ap.2.1
          have el : (((p :: pt).length : Nat) : Int) - 1 = (pt.length : Int) := by rw [List.length_cons]; omega
          rw [el, r5', r3', n6', n4', tn, hp', tn]
          refine Ev.f (by omega) (Ev.g t6' (Ev.g (by omega) (Ev.g (by omega) (Ev.g t4' (Ev.g (by omega) (Ev.g (by omega) (Ev.g (by omega) (Ev.l ?_))))))))
          have hlo : ∀ v, v = a ∨ v = p → 0 ≤ mI s (L + 4) v ∧ mI s (L + 4) v ≤ 320 := fun v hv => by
            have hm := ti.2.2.2.2.2.2.2.2.2.2.2.2.2.2.2.2
            have : v ∈ op := hv.elim (fun z => z ▸ aop) (fun z => ti.2.2.2.1 v (by rw [z, hpa]; exact List.mem_cons_of_mem _ List.mem_cons_self))
            have := ti.1 v this
            omega
          have ha' := hlo a (Or.inl rfl)
          have hp'' := hlo p (Or.inr rfl)
          rw [e4]
          have X3 : Ex (fun q k => q = L + 4) x30 (wI x30 (L + 4) p (w32 (if mI s (L + 4) a < mI s (L + 4) p then mI s (L + 4) a else mI s (L + 4) p))) := Ex.rf.I rfl
          obtain ⟨op', od', T, -⟩ := FIN _ X3 (fun v hv => by
            rw [mI_wI, if_neg (fun z => hv pt (by rw [z.2]))]) (fun v q e => by
            obtain ⟨e1, -⟩ := List.cons.inj e
            rw [← e1, mI_wI, if_pos ⟨rfl, rfl⟩]
            have : ∀ z : Int, 0 ≤ z ∧ z ≤ 320 → w32 (w32 z) = z := fun z hz => by rw [w32_i (x := z) (by omega) (by omega), w32_i (by omega) (by omega)]
            rw [this _ (by split <;> assumption)])
          exact ih _ op' (p :: pt) od' f _ (by rw [List.length_cons]; omega) (MS _ X3) (by omega) (Xq.tr (X3.mono (fun a k p => by unfold Lq; omega))) (vq.cg (by rw [← e3]; funext v; exact X3.rI (by omega))) T
      · have eab : E a b := (bt a b a3 b2).mp b3
        have hna : ∀ w, E a w → (w : Int) < ((b + 1 : Nat) : Int) → (w : Int) < mI s (L + 5) a ∨ w = b := fun w e hw => by
          rw [hj]
          by_cases c : j ≤ w
          · by_cases c2 : w < b
            · have := b4 w c c2
              rw [(bt a w a3 (by omega)).mpr e] at this; cases this
            · right; omega
          · left; omega
        refine Ev.g (by omega) (Ev.g (by omega) (Ev.l ?_))
        have ew : w32 ((b : Int) + 1) = ((b + 1 : Nat) : Int) := inc32 (by omega)
        simp only [mR_wI, mT_wI, mN_wI, r2, r3, r5, r7, n3, n4, n6, n8, tn, ew]
        refine Ev.g t3 (Ev.g (by omega) ?_)
        rw [mIwI1 (show ¬ (L + 3 = L + 5 ∧ b = a) by omega), mIwI1 (show ¬ (L + 8 = L + 5 ∧ b = a) by omega)]
        have X1 : Ex (fun q k => q = L + 5 ∧ k = a) s (wI s (L + 5) a ((b + 1 : Nat) : Int)) := Ex.rf.I ⟨rfl, rfl⟩
        have Xq1 : Ex (Lq L) σ0 (wI s (L + 5) a ((b + 1 : Nat) : Int)) := X.tr (X1.mono (fun a k p => by unfold Lq; omega))
        have f5 : mI (wI s (L + 5) a ((b + 1 : Nat) : Int)) (L + 5) = fu (mI s (L + 5)) a ((b + 1 : Nat) : Int) := by
          funext v
          by_cases c : v = a
          · rw [c, fu_at, mI_wI, if_pos ⟨rfl, rfl⟩, w32_i (by omega) (by omega)]
          · rw [fu_ne c, mIwI1 (by omega)]
        have tm1 : TGm (wI s (L + 5) a ((b + 1 : Nat) : Int)) L E op od := by
          refine ⟨lk.ex X1, ao.cg (fun i _ => X1.rI (by omega)), by rw [X1.rI (by omega)]; exact ho, fun v hv => by rw [X1.rI (by omega)]; exact io v hv, ad.cg (fun i _ => X1.rI (by omega)), by rw [X1.rI (by omega)]; exact hdd, fun p q hp hq => by rw [BT.ex X1 (fun k => by omega)]; exact bt p q hp hq⟩
        by_cases cb : mI s (L + 3) b = -1
        · -- a new one
          refine Ev.f (fun z => z cb) ?_
          have nap : b ∉ op := fun q => by have := (ti.1 b q).2.1; omega
          have bne : b ≠ a := fun z => nap (z ▸ aop)
          have TI2 := TI.meet (b := b) (nx' := fu (fu (mI s (L + 5)) a ((b + 1 : Nat) : Int)) b 0) ti b2 cb (fun p hp => by
            by_cases c : p = a
            · rw [c]; exact Relation.TransGen.single eab
            · have hp' := (List.mem_cons.mp hp).resolve_left c
              have := (List.pairwise_cons.mp ti.2.2.1).1 p hp'
              exact Relation.TransGen.tail (ti.2.2.2.2.1 p hp a aop this) eab) (fun v hv hvb w e hw hvp => by
            rw [fu_ne hvb] at hw
            by_cases c : v = a
            · subst c
              rw [fu_at] at hw; exact hna w e hw
            · rw [fu_ne c] at hw; exact Or.inl hw) fu_at
          have l2 := TI2.len
          rw [List.length_cons, List.length_cons, List.length_cons] at l2
          have ep : w32 ((pa.length : Int) + 1) = ((pa.length + 1 : Nat) : Int) := inc32 (by omega)
          rw [ep, tn]
          refine Ev.g t6 (Ev.g (by omega) (Ev.l ?_))
          have X2 : Ex (fun q k => q = L + 6 ∧ k = pa.length + 1) (wI s (L + 5) a ((b + 1 : Nat) : Int)) (wI (wI s (L + 5) a ((b + 1 : Nat) : Int)) (L + 6) (pa.length + 1) b) := Ex.rf.I ⟨rfl, rfl⟩
          generalize hs1 : wI s (L + 5) a ((b + 1 : Nat) : Int) = s1 at *
          have g3 : mI (wI s1 (L + 6) (pa.length + 1) b) (L + 3) = mI s (L + 3) := by funext v; rw [X2.rI (by omega), X1.rI (by omega)]
          have g4 : mI (wI s1 (L + 6) (pa.length + 1) b) (L + 4) = mI s (L + 4) := by funext v; rw [X2.rI (by omega), X1.rI (by omega)]
          have g5 : mI (wI s1 (L + 6) (pa.length + 1) b) (L + 5) = fu (mI s (L + 5)) a ((b + 1 : Nat) : Int) := by rw [← f5]; funext v; rw [X2.rI (by omega)]
          have g11 : mI (wI s1 (L + 6) (pa.length + 1) b) L 11 = mI s L 11 := by rw [X2.rI (by omega), X1.rI (by omega)]
          have gc : ciM (wI s1 (L + 6) (pa.length + 1) b) L = ciM s L := by funext v; unfold ciM; rw [X2.rI (by omega), X1.rI (by omega)]
          have tm2 : TGm (wI s1 (L + 6) (pa.length + 1) b) L E op od := by
            obtain ⟨z1, z2, z3, z4, z5, z6, z7⟩ := tm1
            refine ⟨z1.ex X2, z2.cg (fun i _ => X2.rI (by omega)), by rw [X2.rI (by omega)]; exact z3, fun v hv => by rw [X2.rI (by omega)]; exact z4 v hv, z5.cg (fun i _ => X2.rI (by omega)), by rw [X2.rI (by omega)]; exact z6, fun p q hp hq => by rw [BT.ex X2 (fun k => by omega)]; exact z7 p q hp hq⟩
          have ap2 : AsR (wI s1 (L + 6) (pa.length + 1) b) (L + 6) (b :: a :: pa) := by
            refine ⟨?_, ap.cg (fun i hi => ?_)⟩
            · rw [List.length_cons, mI_wI, if_pos ⟨rfl, rfl⟩, w32_i (by omega) (by omega)]
            · rw [List.length_cons] at hi
              rw [X2.rI (by omega), X1.rI (by omega)]
          have nx2 : ∀ v, v ∈ op → 0 ≤ mI (wI s1 (L + 6) (pa.length + 1) b) (L + 5) v ∧ mI (wI s1 (L + 6) (pa.length + 1) b) (L + 5) v ≤ 320 := fun v hv => by
            rw [g5]
            by_cases c : v = a
            · rw [c, fu_at]; omega
            · rw [fu_ne c]; exact nx v hv
          refine Ev.c (c_meet (pa := a :: pa) tm2 ap2 (by rw [g3, g4, g5, g11, gc]; exact TI2) nx2) (fun x28 _ u => ?_)
          obtain ⟨X4, T, k1, k2, k3⟩ := u
          refine ih x28 (b :: op) (b :: a :: pa) od f _ (by rw [List.length_cons, List.length_cons]; omega) ?_ (by omega) ((Xq1.tr (X2.mono (fun a k p => by unfold Lq; omega))).tr X4) ⟨fun v hv hn => ?_, fun v hn => ?_⟩ T
          rotate_left
          · by_cases c : v = b
            · rw [c]; exact hQ a b eab
            · rw [(k1 v c).1, g3] at hn; exact vq.1 v hv hn
          · by_cases c : v = b
            · rw [c]; exact k2
            · rw [(k1 v c).1, g3]; exact vq.2 v hn
          have := sumF_lt (f := wgt x28 L (b :: a :: pa)) (g := wgt s L (a :: pa)) 320 (fun i _ => ?_) ⟨b, b2, ?_⟩
          · omega
          · by_cases c : i = b
            · subst c
              unfold wgt
              rw [if_neg k2, if_pos List.mem_cons_self, k3, if_pos cb]; decide
            · unfold wgt
              rw [(k1 i c).1, (k1 i c).2, g3, g5]
              split
              · omega
              · by_cases c2 : i ∈ a :: pa
                · rw [if_pos (List.mem_cons_of_mem _ c2), if_pos c2]
                  by_cases c3 : i = a
                  · rw [c3, fu_at, hj]; omega
                  · rw [fu_ne c3]; omega
                · rw [if_neg (fun z => c2 ((List.mem_cons.mp z).resolve_left c)), if_neg c2]; omega
          · unfold wgt
            rw [if_neg k2, if_pos List.mem_cons_self, k3, if_pos cb]; decide
        · -- seen before
          refine Ev.g cb (Ev.g t8 (Ev.g (by omega) ?_))
          have bv := (ti.2.2.2.2.2.2.2.2.2.1 b b2).mp cb
          have SEEN : ∀ (r : gMem), Ex (fun q k => q = L + 4 ∧ k = a) (wI s (L + 5) a ((b + 1 : Nat) : Int)) r → (mI r (L + 4) a = if b ∈ op ∧ mI s (L + 3) b < mI s (L + 4) a then mI s (L + 3) b else mI s (L + 4) a) → Ev (x4_walk_l14 N L (fun s40 => some s40) f (pa.length : Int) r) (fun r => Ex (Lq L) σ0 r ∧ VQ L Q σ0 r ∧ ∃ od', TGs r L E [] [] od') := by
            intro r X3 hr
            have g3 : mI r (L + 3) = mI s (L + 3) := by funext v; rw [X3.rI (by omega), X1.rI (by omega)]
            have g5 : mI r (L + 5) = fu (mI s (L + 5)) a ((b + 1 : Nat) : Int) := by rw [← f5]; funext v; rw [X3.rI (by omega)]
            have g11 : mI r L 11 = mI s L 11 := by rw [X3.rI (by omega), X1.rI (by omega)]
            have gc : ciM r L = ciM s L := by funext v; unfold ciM; rw [X3.rI (by omega), X1.rI (by omega)]
            have T := TI.seen (b := b) (lo' := mI r (L + 4)) (nx' := fu (mI s (L + 5)) a ((b + 1 : Nat) : Int)) ti eab bv.symm (fun v hv => by rw [X3.rI (by omega), X1.rI (by omega)]) hr (fun v hv => fu_ne hv) (fun w e hw => by rw [fu_at] at hw; exact hna w e hw)
            have tm3 : TGm r L E op od := by
              obtain ⟨z1, z2, z3, z4, z5, z6, z7⟩ := tm1
              refine ⟨z1.ex X3, z2.cg (fun i _ => X3.rI (by omega)), by rw [X3.rI (by omega)]; exact z3, fun v hv => by rw [X3.rI (by omega)]; exact z4 v hv, z5.cg (fun i _ => X3.rI (by omega)), by rw [X3.rI (by omega)]; exact z6, fun p q hp hq => by rw [BT.ex X3 (fun k => by omega)]; exact z7 p q hp hq⟩
            refine ih r op (a :: pa) od f _ (by rw [List.length_cons]; omega) ?_ (by omega) (Xq1.tr (X3.mono (fun a k p => by unfold Lq; omega))) (vq.cg g3) ⟨tm3, ap.cg (fun i _ => by rw [X3.rI (by omega), X1.rI (by omega)]), ?_, fun v hv => ?_⟩
            · have := sumF_lt (f := wgt r L (a :: pa)) (g := wgt s L (a :: pa)) 320 (fun i _ => ?_) ⟨a, a3, ?_⟩
              · omega
              · unfold wgt
                rw [g3, g5]
                split
                · omega
                · split
                  · by_cases c3 : i = a
                    · rw [c3, fu_at, hj]; omega
                    · rw [fu_ne c3]; omega
                  · omega
              · unfold wgt
                rw [g3, g5, if_neg (by omega), if_pos List.mem_cons_self, if_neg (by omega), if_pos List.mem_cons_self, fu_at, hj]; omega
            · unfold TGj
              rw [g3, g5, g11, gc]; exact T
            · rw [g5]
              by_cases c : v = a
              · rw [c, fu_at]; omega
              · rw [fu_ne c]; exact nx v hv
          have iob := io b b2
          by_cases q : b ∈ op
          · rw [if_pos q] at iob
            rw [iob, mIwI1 (show ¬ (L + 4 = L + 5 ∧ a = a) by omega)]
            refine Ev.f (by decide) (Ev.g t4 (Ev.g (by omega) (Ev.g (by omega) (Ev.g (by omega) (Ev.l (SEEN _ (Ex.rf.I ⟨rfl, rfl⟩) ?_))))))
            rw [mI_wI, if_pos ⟨rfl, rfl⟩]
            have b1' := ti.1 b q
            have hm := ti.2.2.2.2.2.2.2.2.2.2.2.2.2.2.2.2
            have : ∀ z : Int, 0 ≤ z ∧ z ≤ 320 → w32 (w32 z) = z := fun z hz => by rw [w32_i (x := z) (by omega) (by omega), w32_i (by omega) (by omega)]
            by_cases c : mI s (L + 3) b < mI s (L + 4) a
            · rw [if_pos c, if_pos ⟨q, c⟩, this _ (by omega)]
            · rw [if_neg c, if_neg (fun z => c z.2), this _ (by omega)]
          · rw [if_neg q] at iob
            rw [iob]
            refine Ev.g rfl (SEEN _ Ex.rf ?_)
            rw [if_neg (fun z => q z.1), X1.rI (by omega)]
end CoGraph3
