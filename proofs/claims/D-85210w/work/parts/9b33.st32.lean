/-! ===== PHASE 2: the acts remove, move ===== -/
section State32
variable {N x h u nv nv' pa un fs i t s k n A j : Nat} {σ σ' σ1 τ τ' τ'' r f : gMem} {P : Nat → Nat → Prop} {W : Nat → Prop} {own rt : Nat → Nat} {S S' : Sh} {Gs : Nat → Sh} {g : Nat → Nat → Vl} {v w p : Int} {ax : Int} {mk : Nat → Int} {fl : Nat → Option Nat}
theorem ln_end {cd : List (String × Int)} {b2 r3 : gMem} (gv : g32 v) (hh : h = x + 1471) (b3 : StF x σ r) (b4 : Ex (StP h) (wI τ h 0 0) b2) (f1 : Kz (NoT x h) r f) (f2 : mI f x = mI r x) (fz : mZ f ≤ mZ r + 200) (fs2 : mS f ≤ mS r + 2000) (X : Ex (LnQ h ax) b2 r3) (R4 : Rl x h t nv pa un fs Gs g own rt f r3) : OpO x h t cd σ τ (.inl (some (vI v)), f) (v, r3) := by
  have i0 : mI (wI τ h 0 0) h 0 = 0 := by rw [mIwI2 ⟨rfl, rfl⟩, w32_i (by omega) (by omega)]
  refine ⟨⟨_, _, _, _, _, _, _, _, R4.t1⟩, ⟨(b3.nt hh).tr f1, 0, ?_, ?_, ?_⟩, ?_, Or.inl ⟨_, rfl, rfl, ?_, gv⟩⟩
  · show mI f x 17 = _
    rw [f2, b3.2.2.1 17 (by decide) (by decide) (by decide)]; omega
  · show mZ f ≤ _; have := b3.2.2.2.2.1; omega
  · show mS f ≤ _; have := b3.2.2.2.2.2; omega
  · exact (((Ex.rf.I (by unfold TwA; omega)).tr (b4.mono (fun a k p => p.ta))).tr (X.mono (fun a k p => by have := p.out; unfold TwA; omega)))
  · show mI r3 h 0 = 0
    rw [X.rI (fun p => by have := p.out; omega), b4.rI (fun p => by have := p.out; omega)]; exact i0
/-- lines that come by places -/
theorem ok_pl {c : Nat → Nat} {nx : Int} (d : (axL S ax).Nodup) (m : ∀ m ∈ axL S ax, 0 ≤ m ∧ m < nx) (hn : 0 < n) (hM : n ≤ axM ax) (cl : ∀ j, j < n → c j < (axL S ax).length) (ci : ∀ i j, i < n → j < n → c i = c j → i = j) : LnOk S ax n (fun j => gl (axL S ax) (c j)) (fun j => some (c j)) nx :=
  ⟨hn, hM, fun i j hi hj e => ci i j hi hj (nodup_gl d (cl i hi) (cl j hj) e), fun j hj => m _ (gl_mm (cl j hj)), fun j hj => ⟨fun y hy => by obtain rfl := Option.some.inj hy; exact ⟨cl j hj, rfl⟩, fun hy => by cases hy⟩⟩
def pD (a i : Nat) : Nat := if i < a then i else i + 1
/-- remove -/
theorem op_remove {v2 : Int} (hN : 2000 ≤ N) (R : RL x h t σ τ) : E2 (x1_remove N x ax v2 σ) (tw_remove N h ax v2 τ) (OpO x h t cdI σ τ) := by
  obtain ⟨nv, pa, un, fs, Gs, g, own, rt, R⟩ := R
  have l := R.1.1
  have hh := R.1.2.1.1
  obtain ⟨e8, c⟩ := R.c0
  have Rt := R.t0 (v := 0)
  have s0 := Rt.s0
  have m10 := c.1.2.2.2
  have n32 := c.1.2.1.2.2.1
  have kA := axA_ls (ax := ax) c
  have al := axL_le (ax := ax) n32 m10
  have a32 := axM_le ax
  have xo := (R.1.2.2.2.1.1 0 (Or.inl rfl)).2.2 _ (Or.inl rfl)
  unfold x1_remove tw_remove
  refine E2.lg l.1.1 (E2.le (c_marksOf (ax := ax) l e8 c) (E2.rl (E2.re (t_in ax 0 1) ?_)))
  by_cases ha : ax = 0 ∨ ax = 1
  · rw [if_pos ha, thrR, if_pos (show (0 : Int) ≤ ax ∧ ax ≤ 1 by omega)]
    refine E2.rg (by decide) (E2.re (s0.axn (by decide)) (E2.re (t_in v2 1 _) ?_))
    have wn0 : w32 ((axL (Gs 0) ax).length : Int) = ((axL (Gs 0) ax).length : Int) := w32_i (by omega) (by omega)
    have wn1 : w32 ((axL (Gs 0) ax).length - 1 : Int) = ((axL (Gs 0) ax).length : Int) - 1 := w32_i (by omega) (by omega)
    by_cases c1 : v2 < 1
    · exact E2.lg c1 (E2.rf (by rw [if_neg (by omega)]; decide) (E2.r (OpO.ex R (by decide) (by decide))))
    refine E2.lf c1 (E2.lg kA.1 ?_)
    rw [kA.2.1, wn0]
    by_cases c2 : v2 ≤ ((axL (Gs 0) ax).length : Int)
    · obtain ⟨q, rfl⟩ : ∃ q : Nat, v2 = ((q + 1 : Nat) : Int) := ⟨(v2 - 1).toNat, by omega⟩
      have hq : q < (axL (Gs 0) ax).length := by omega
      refine E2.lg c2 (E2.rg (by rw [if_pos (by omega)]; decide) ?_)
      by_cases cm : ((axL (Gs 0) ax).length : Int) ≠ 1
      · refine E2.lg cm (E2.rg cm ?_)
        obtain ⟨own', rt', fs', r, er, b, eb, b1, R2, b3, b4, b5, b6⟩ := both_step (N := N) (by omega) Rt
        refine E2.le er (E2.re eb ?_)
        have g0 := stG_0 pa Gs
        have rt0 : rt' 0 = rt 0 := by rw [← R2.c0.1, b3.2.1, e8]
        obtain ⟨kk, k40, k122⟩ := kept_k R2
        rw [b1]
        have kA2 := axA_ls (ax := ax) R2.c0.2
        have eA : axA r (rt' 0) ax = axA σ (rt 0) ax := by
          unfold axA
          rw [rt0]
          exact b3.1.rR l.ok (by rw [c.1.1]; decide) (by unfold StW; unfold OutS at xo; omega) _
        rw [eA, g0] at kA2
        have s3 := R2.c0
        have lr := R2.1.1
        have p3 := R2.p0.axs (ax := ax)
        rw [g0] at p3
        rw [show w32 (((q + 1 : Nat) : Int) - 1) = (q : Int) by rw [w32_i (by omega) (by omega)]; omega, s3.1]
        obtain ⟨m, em, m1, w1, w2, w3, w4, w5⟩ := c_without (at' := q) lr.ok kA2 hq
        refine E2.le em ?_
        rw [m1]
        have w1' : LsC m.2 (mZ r) (lst ((axL (Gs 0) ax).length - 1) (fun j => gl (axL (Gs 0) ax) (pD q j))) := by
          have e : (fun j => gl (axL (Gs 0) ax) (pD q j)) = fun j => if j < q then gl (axL (Gs 0) ax) j else gl (axL (Gs 0) ax) (j + 1) := by
            funext j
            unfold pD
            by_cases e : j < q
            · rw [if_pos e, if_pos e]
            · rw [if_neg e, if_neg e]
          rw [e]; exact w1
        refine E2.lg (by rw [w2.tag lr.ok (by rw [s3.2.1.1]; decide)]; exact s3.2.1.1) ?_
        have lok : LnOk (stG pa Gs 0) ax ((axL (Gs 0) ax).length - 1) (fun j => gl (axL (Gs 0) ax) (pD q j)) (fun j => some (pD q j)) (if ax ≠ 0 then mI b.2 h 7 else mI b.2 h 6) := by
          rw [g0]
          exact ok_pl p3.1 p3.2.1 (by omega) (by omega) (fun j hj => by unfold pD; split <;> omega) (fun i j hi hj e => by unfold pD at e; split at e <;> split at e <;> omega)
        obtain ⟨f, ef, f1, f2, f3, f4, f5, own3, FF⟩ := both_lay (N := N) (by omega) R2 b5 w2 w1' (Nat.le_refl _) w5 lok
        refine E2.le ef ?_
        rw [(f5 _ kA2.1).1, kA2.2.1, wn1]
        refine E2.lv rfl ?_
        have la := lnA (h := h) (ax := ax)
        have kS := R2.s0
        rw [g0] at kS FF
        unfold tw_goLine
        have eL : tw_linesOf h 40 ax b.2 = some ((axL (Gs 0) ax).length : Int) := kS.axn (ax := ax) (by decide)
        rw [eL, Option.bind_some]
        have L0 := kS.lines (ax := ax) m10
        suffices Z : Ev (tw_goLine_l12 N h ax ((tsN fs' (if pa = 40 then 40 else pa + 1) : Nat) : Int) ((axL (Gs 0) ax).length : Int) (fun s6 => (tw_emptyLine N h ax (w32 (((axL (Gs 0) ax).length : Int) - 1)) s6).bind fun x8 => (tw_setLines h 40 ax (w32 (((axL (Gs 0) ax).length : Int) - 1)) x8).bind fun x11 => some x11) N ((q + 1 : Nat) : Int) b.2) (fun r3 => OpO x h t cdI σ τ (.inl (some (vI (((axL (Gs 0) ax).length : Int) - 1))), f) (((axL (Gs 0) ax).length : Int) - 1, r3)) by
          exact Ev.c Z (fun r3 _ z => Ev.r z)
        refine del_l (τ := b.2) (S := Gs 0) (nv := nv) (at' := q + 1) (by omega) n32 m10 k122 k40 (by omega) (fun r1 X1 L1 => ?_) ((axL (Gs 0) ax).length - (q + 1)) (q + 1) N _ (by omega) (Nat.le_refl _) (by omega) Ex.rf kk (L0.cg (fun j hj => ?_))
        · rw [wn1, show ((axL (Gs 0) ax).length : Int) - 1 = (((axL (Gs 0) ax).length - 1 : Nat) : Int) by omega]
          refine Ev.c (t_emptyLine (to := (axL (Gs 0) ax).length - 1) (by omega) L1 n32 m10 (by omega) (fun j hj => by omega)) (fun r2 _ z => ?_)
          obtain ⟨L2, X2⟩ := z
          refine Ev.e (t_setLines (u := 40) (by decide)) (Ev.r ?_)
          have X12 : Ex (LnQ h ax) b.2 r2 := (X1.mono (fun a k p => Or.inl p)).tr (X2.mono (fun a k p => Or.inl p))
          have X3 : Ex (fun a k => a = (if ax ≠ 0 then h + 2 else h + 1) ∧ k = 40) r2 (wI r2 (if ax ≠ 0 then h + 2 else h + 1) 40 (((axL (Gs 0) ax).length - 1 : Nat) : Int)) := Ex.rf.I ⟨rfl, rfl⟩
          have XX : Ex (LnQ h ax) b.2 (wI r2 (if ax ≠ 0 then h + 2 else h + 1) 40 (((axL (Gs 0) ax).length - 1 : Nat) : Int)) := X12.I (Or.inr ⟨rfl, rfl⟩)
          have cn : mI (wI r2 (if ax ≠ 0 then h + 2 else h + 1) 40 (((axL (Gs 0) ax).length - 1 : Nat) : Int)) (if ax ≠ 0 then h + 2 else h + 1) 40 = (((axL (Gs 0) ax).length - 1 : Nat) : Int) := by rw [mIwI2 ⟨rfl, rfl⟩, w32_i (by omega) (by omega)]
          have L3 := L2.ex n32 m10 (fun j hj => by omega) X3 (fun a k p => ⟨fun y => by unfold LnP at y; omega, Qt.co (by unfold Qt; omega)⟩) (LnQ.grw (X3.mono (fun a k p => Or.inr p)))
          have sh3 := ln_sh (n := (axL (Gs 0) ax).length - 1) (mk := fun j => gl (axL (Gs 0) ax) (pD q j)) (fl := fun j => some (pD q j)) kS n32 m10 XX (L3.cg (fun j hj => ?_)) (by omega) cn
          · have R4 := FF _ (LnQ h ax) XX (fun a k p => Or.inl p.sl) sh3 (by rw [XX.rI (fun p => by have := p.out; omega)]; exact b6)
            exact ln_end ⟨by omega, by omega⟩ hh b3 b4 f1 f2 (by omega) (by omega) XX R4
          · have e1 : j ≠ (axL (Gs 0) ax).length - 1 := by omega
            have e2 : (if q + 1 ≤ j + 1 ∧ j + 1 < (axL (Gs 0) ax).length then j + 1 else j) = pD q j := by
              unfold pD
              by_cases e : j < q
              · rw [if_pos e, if_neg (by omega)]
              · rw [if_neg e, if_pos (by omega)]
            unfold upL
            rw [if_neg e1, if_neg e1]
            (try dsimp only)
            rw [e2]
            exact ⟨Or.inr (by omega), rfl, rfl⟩
        · have e : (if q + 1 ≤ j + 1 ∧ j + 1 < q + 1 then j + 1 else j) = j := if_neg (by omega)
          exact ⟨hj, by rw [e], by rw [e]⟩
      · exact E2.lf cm (E2.rf cm (E2.r (OpO.ex R (by decide) (by decide))))
    · exact E2.lf c2 (E2.rf (by rw [if_neg (by omega)]; decide) (E2.r (OpO.ex R (by decide) (by decide))))
  · rw [if_neg ha, thrRE, if_neg (show ¬ ((0 : Int) ≤ ax ∧ ax ≤ 1) by omega)]
    exact E2.rf (by decide) (E2.r (OpO.ex R (by decide) (by decide)))
section Mv
variable {K : gMem → Option (Int × gMem)} {Φ : Int × gMem → Prop} {a b kp : Nat} {v2 : Int}
theorem mv_up (hN : 100 ≤ N) (n1 : S.1.1.length ≤ 32) (n2 : S.1.2.length ≤ 10) (hk : kp < 122) (k40 : kp ≠ 40) (ha : a < (axL S ax).length) (hK : ∀ r, Ex (LnP h ax) τ r → LnT h nv r ax S (fun j => j < (axL S ax).length) (fun j => gl (axL S ax) (if b < j ∧ j ≤ a then j - 1 else j)) (fun j => some (if b < j ∧ j ≤ a then j - 1 else j)) → Ev (K r) Φ) : ∀ (m i fu : Nat) (r : gMem), i = b + m → i ≤ a → m < fu → Ex (LnP h ax) τ r → ShT r h nv kp S → LnT h nv r ax S (fun j => j < (axL S ax).length) (fun j => gl (axL S ax) (if i < j ∧ j ≤ a then j - 1 else j)) (fun j => some (if i < j ∧ j ≤ a then j - 1 else j)) → Ev (tw_move_l76 N h ax v2 ((b + 1 : Nat) : Int) kp (-1) K fu ((i + 1 : Nat) : Int) r) Φ := by
  have a32 := axM_le ax
  have al := axL_le (ax := ax) n1 n2
  intro m
  induction m with
  | zero =>
    intro i fu r h1 h2 h3 X kS L
    obtain ⟨fu, rfl⟩ : ∃ j, fu = j + 1 := ⟨fu - 1, by omega⟩
    obtain rfl : i = b := by omega
    unfold tw_move_l76
    exact Ev.g (by omega) (hK r X L)
  | succ m ih =>
    intro i fu r h1 h2 h3 X kS L
    obtain ⟨fu, rfl⟩ : ∃ j, fu = j + 1 := ⟨fu - 1, by omega⟩
    unfold tw_move_l76
    rw [show w32 (((i + 1 : Nat) : Int) + -1 - 1) = ((i - 1 : Nat) : Int) by rw [w32_i (by omega) (by omega)]; omega, show w32 (((i + 1 : Nat) : Int) - 1) = (i : Int) by rw [w32_i (by omega) (by omega)]; omega, show w32 (((i + 1 : Nat) : Int) + -1) = ((i - 1 + 1 : Nat) : Int) by rw [w32_i (by omega) (by omega)]; omega]
    refine Ev.f (by omega) (Ev.c (t_comeLine (fr := i - 1) (to := i) hN L kS n1 n2 hk k40 (by omega) (by omega) (fun j hj => by omega)) (fun r' _ z => ?_))
    obtain ⟨L', X'⟩ := z
    refine ih (i - 1) fu r' (by omega) (by omega) (by omega) (X.tr X') (kS.lnp X' k40 n1 n2) (L'.cg (fun j hj => ?_))
    unfold upL
    by_cases e : j = i
    · subst e
      have e1 : (if j - 1 < j ∧ j ≤ a then j - 1 else j) = j - 1 := if_pos (by omega)
      exact ⟨Or.inl rfl, by rw [if_pos rfl, e1], by rw [if_pos rfl, e1]⟩
    · have e2 : (if i - 1 < j ∧ j ≤ a then j - 1 else j) = if i < j ∧ j ≤ a then j - 1 else j := by
        by_cases c : i < j ∧ j ≤ a
        · rw [if_pos c, if_pos ⟨by omega, c.2⟩]
        · rw [if_neg c, if_neg (fun z => c ⟨by omega, z.2⟩)]
      exact ⟨Or.inr hj, by rw [if_neg e, e2], by rw [if_neg e, e2]⟩
theorem mv_dn (hN : 100 ≤ N) (n1 : S.1.1.length ≤ 32) (n2 : S.1.2.length ≤ 10) (hk : kp < 122) (k40 : kp ≠ 40) (hb : b < (axL S ax).length) (hK : ∀ r, Ex (LnP h ax) τ r → LnT h nv r ax S (fun j => j < (axL S ax).length) (fun j => gl (axL S ax) (if a ≤ j ∧ j < b then j + 1 else j)) (fun j => some (if a ≤ j ∧ j < b then j + 1 else j)) → Ev (K r) Φ) : ∀ (m i fu : Nat) (r : gMem), i + m = b → a ≤ i → m < fu → Ex (LnP h ax) τ r → ShT r h nv kp S → LnT h nv r ax S (fun j => j < (axL S ax).length) (fun j => gl (axL S ax) (if a ≤ j ∧ j < i then j + 1 else j)) (fun j => some (if a ≤ j ∧ j < i then j + 1 else j)) → Ev (tw_move_l76 N h ax v2 ((b + 1 : Nat) : Int) kp 1 K fu ((i + 1 : Nat) : Int) r) Φ := by
  have a32 := axM_le ax
  have al := axL_le (ax := ax) n1 n2
  intro m
  induction m with
  | zero =>
    intro i fu r h1 h2 h3 X kS L
    obtain ⟨fu, rfl⟩ : ∃ j, fu = j + 1 := ⟨fu - 1, by omega⟩
    obtain rfl : i = b := by omega
    unfold tw_move_l76
    exact Ev.g (by omega) (hK r X L)
  | succ m ih =>
    intro i fu r h1 h2 h3 X kS L
    obtain ⟨fu, rfl⟩ : ∃ j, fu = j + 1 := ⟨fu - 1, by omega⟩
    unfold tw_move_l76
    rw [show w32 (((i + 1 : Nat) : Int) + 1 - 1) = ((i + 1 : Nat) : Int) by rw [w32_i (by omega) (by omega)]; omega, show w32 (((i + 1 : Nat) : Int) - 1) = (i : Int) by rw [w32_i (by omega) (by omega)]; omega, show w32 (((i + 1 : Nat) : Int) + 1) = ((i + 1 + 1 : Nat) : Int) by rw [w32_i (by omega) (by omega)]; omega]
    refine Ev.f (by omega) (Ev.c (t_comeLine (fr := i + 1) (to := i) hN L kS n1 n2 hk k40 (by omega) (by omega) (fun j hj => by omega)) (fun r' _ z => ?_))
    obtain ⟨L', X'⟩ := z
    refine ih (i + 1) fu r' (by omega) (by omega) (by omega) (X.tr X') (kS.lnp X' k40 n1 n2) (L'.cg (fun j hj => ?_))
    unfold upL
    by_cases e : j = i
    · subst e
      have e1 : (if a ≤ j ∧ j < j + 1 then j + 1 else j) = j + 1 := if_pos (by omega)
      exact ⟨Or.inl rfl, by rw [if_pos rfl, e1], by rw [if_pos rfl, e1]⟩
    · have e2 : (if a ≤ j ∧ j < i + 1 then j + 1 else j) = if a ≤ j ∧ j < i then j + 1 else j := by
        by_cases c : a ≤ j ∧ j < i
        · rw [if_pos c, if_pos ⟨c.1, by omega⟩]
        · rw [if_neg c, if_neg (fun z => c ⟨z.1, by omega⟩)]
      exact ⟨Or.inr hj, by rw [if_neg e, e2], by rw [if_neg e, e2]⟩
end Mv
/-- which line comes to place j, when line a goes to place b -/
def mvF (a b j : Nat) : Nat := if j < b then pD a j else if j = b then a else pD a (j - 1)
theorem mvF_lt {a b : Nat} (ha : a < n) (hb : b < n) (hj : j < n) : mvF a b j < n := by
  unfold mvF pD
  by_cases c1 : j < b
  · rw [if_pos c1]; split <;> omega
  · rw [if_neg c1]
    by_cases c2 : j = b
    · rw [if_pos c2]; exact ha
    · rw [if_neg c2]; split <;> omega
theorem mvF_inj {a b i : Nat} (e : mvF a b i = mvF a b j) : i = j := by
  unfold mvF pD at e
  by_cases c1 : i < b
  · rw [if_pos c1] at e
    by_cases d1 : j < b
    · rw [if_pos d1] at e; split at e <;> split at e <;> omega
    · rw [if_neg d1] at e
      by_cases d2 : j = b
      · rw [if_pos d2] at e; split at e <;> omega
      · rw [if_neg d2] at e; split at e <;> split at e <;> omega
  · rw [if_neg c1] at e
    by_cases c2 : i = b
    · rw [if_pos c2] at e
      by_cases d1 : j < b
      · rw [if_pos d1] at e; split at e <;> omega
      · rw [if_neg d1] at e
        by_cases d2 : j = b
        · omega
        · rw [if_neg d2] at e; split at e <;> omega
    · rw [if_neg c2] at e
      by_cases d1 : j < b
      · rw [if_pos d1] at e; split at e <;> split at e <;> omega
      · rw [if_neg d1] at e
        by_cases d2 : j = b
        · rw [if_pos d2] at e; split at e <;> omega
        · rw [if_neg d2] at e; split at e <;> split at e <;> omega
theorem mv_ls {l : List Int} {a b : Nat} (ha : a < l.length) (hb : b < l.length) : insL (delL l a) b (gl l a) = lst l.length (fun j => gl l (mvF a b j)) := by
  have dl : (delL l a).length = l.length - 1 := lst_len _ _
  have dg : ∀ i, i < l.length - 1 → gl (delL l a) i = gl l (pD a i) := fun i hi => by
    unfold delL
    rw [gl_lst hi]
    unfold pD
    by_cases c : i < a
    · rw [if_pos c, if_pos c]
    · rw [if_neg c, if_neg c]
  unfold insL
  rw [dl, show l.length - 1 + 1 = l.length by omega]
  refine lst_congr (fun j hj => ?_)
  unfold mvF
  by_cases c1 : j < b
  · rw [if_pos c1, if_pos c1]; exact dg j (by omega)
  · rw [if_neg c1, if_neg c1]
    by_cases c2 : j = b
    · rw [if_pos c2, if_pos c2]
    · rw [if_neg c2, if_neg c2]; exact dg (j - 1) (by omega)
/-- move -/
theorem op_move {v2 v3 : Int} (hN : 2000 ≤ N) (R : RL x h t σ τ) : E2 (x1_move N x ax v2 v3 σ) (tw_move N h ax v2 v3 τ) (OpO x h t cdM σ τ) := by
  obtain ⟨nv, pa, un, fs, Gs, g, own, rt, R⟩ := R
  have l := R.1.1
  have hh := R.1.2.1.1
  obtain ⟨e8, c⟩ := R.c0
  have Rt := R.t0 (v := 0)
  have s0 := Rt.s0
  have m10 := c.1.2.2.2
  have n32 := c.1.2.1.2.2.1
  have kA := axA_ls (ax := ax) c
  have al := axL_le (ax := ax) n32 m10
  have a32 := axM_le ax
  have xo := (R.1.2.2.2.1.1 0 (Or.inl rfl)).2.2 _ (Or.inl rfl)
  unfold x1_move tw_move
  refine E2.lg l.1.1 (E2.le (c_marksOf (ax := ax) l e8 c) (E2.rl (E2.re (t_in ax 0 1) ?_)))
  by_cases ha : ax = 0 ∨ ax = 1
  · rw [if_pos ha, thrR, if_pos (show (0 : Int) ≤ ax ∧ ax ≤ 1 by omega)]
    refine E2.rg (by decide) (E2.re (s0.axn (by decide)) (E2.re (t_in v2 1 _) ?_))
    have wn0 : w32 ((axL (Gs 0) ax).length : Int) = ((axL (Gs 0) ax).length : Int) := w32_i (by omega) (by omega)
    by_cases c1 : v2 < 1
    · exact E2.lg c1 (E2.rg (by rw [if_neg (by omega)]) (E2.r (OpO.ex R (by decide) (by decide))))
    refine E2.lf c1 (E2.lg kA.1 ?_)
    rw [kA.2.1, wn0]
    by_cases c2 : ((axL (Gs 0) ax).length : Int) < v2
    · exact E2.lg c2 (E2.rg (by rw [if_neg (by omega)]) (E2.r (OpO.ex R (by decide) (by decide))))
    refine E2.lf c2 (E2.rf (by rw [if_pos (by omega)]; decide) (E2.re (t_in v3 1 _) ?_))
    by_cases c3 : v3 < 1
    · exact E2.lg c3 (E2.rf (by rw [if_neg (by omega)]; decide) (E2.r (OpO.ex R (by decide) (by decide))))
    refine E2.lf c3 ?_
    by_cases c4 : v3 ≤ ((axL (Gs 0) ax).length : Int)
    · obtain ⟨a, rfl⟩ : ∃ q : Nat, v2 = ((q + 1 : Nat) : Int) := ⟨(v2 - 1).toNat, by omega⟩
      obtain ⟨z, rfl⟩ : ∃ q : Nat, v3 = ((q + 1 : Nat) : Int) := ⟨(v3 - 1).toNat, by omega⟩
      have ha' : a < (axL (Gs 0) ax).length := by omega
      have hz : z < (axL (Gs 0) ax).length := by omega
      refine E2.lg c4 (E2.rg (by rw [if_pos (by omega)]; decide) ?_)
      obtain ⟨own', rt', fs', r, er, b, eb, b1, R2, b3, b4, b5, b6⟩ := both_step (N := N) (by omega) Rt
      refine E2.le er (E2.re eb ?_)
      have g0 := stG_0 pa Gs
      have rt0 : rt' 0 = rt 0 := by rw [← R2.c0.1, b3.2.1, e8]
      obtain ⟨kk, k40, k122⟩ := kept_k R2
      rw [b1]
      have kA2 := axA_ls (ax := ax) R2.c0.2
      have eA : axA r (rt' 0) ax = axA σ (rt 0) ax := by
        unfold axA
        rw [rt0]
        exact b3.1.rR l.ok (by rw [c.1.1]; decide) (by unfold StW; unfold OutS at xo; omega) _
      rw [eA, g0] at kA2
      have s3 := R2.c0
      have lr := R2.1.1
      have p3 := R2.p0.axs (ax := ax)
      rw [g0] at p3
      have wa : w32 (((a + 1 : Nat) : Int) - 1) = (a : Int) := by rw [w32_i (by omega) (by omega)]; omega
      have wz : w32 (((z + 1 : Nat) : Int) - 1) = (z : Int) := by rw [w32_i (by omega) (by omega)]; omega
      rw [wa, wz, s3.1]
      obtain ⟨m, em, m1, w1, w2, w3, w4, w5⟩ := c_without (at' := a) lr.ok kA2 ha'
      refine E2.le em ?_
      have tA : mT r (axA σ (rt 0) ax) ≠ 0 := by rw [kA2.1]; decide
      rw [m1, w2.len lr.ok tA, kA2.2.1, show (((a + 1 : Nat) : Int) - 1).toNat = a by omega, w2.rI lr.ok tA (fun f => f) a, kA2.2.2.2 a ha']
      refine E2.lg (by omega) ?_
      have dl : (delL (axL (Gs 0) ax) a).length = (axL (Gs 0) ax).length - 1 := lst_len _ _
      have gi : g32 (gl (axL (Gs 0) ax) a) := by rw [← kA2.2.2.2 a ha']; exact mI_rng _ _ _
      obtain ⟨m', em', m1', x1, x2, x3, x4, x5⟩ := c_with (at' := z) (v := gl (axL (Gs 0) ax) a) w2.ok w1 (by omega) (by omega) gi
      refine E2.le em' ?_
      rw [m1']
      rw [mv_ls ha' hz] at x1
      refine E2.lg (by rw [x2.tag w2.ok (by rw [w2.tag lr.ok (by rw [s3.2.1.1]; decide), s3.2.1.1]; decide), w2.tag lr.ok (by rw [s3.2.1.1]; decide)]; exact s3.2.1.1) ?_
      have lok : LnOk (stG pa Gs 0) ax (axL (Gs 0) ax).length (fun j => gl (axL (Gs 0) ax) (mvF a z j)) (fun j => some (mvF a z j)) (if ax ≠ 0 then mI b.2 h 7 else mI b.2 h 6) := by
        rw [g0]
        exact ok_pl p3.1 p3.2.1 (by omega) al (fun j hj => mvF_lt ha' hz hj) (fun i j hi hj e => mvF_inj e)
      obtain ⟨f, ef, f1, f2, f3, f4, f5, own3, FF⟩ := both_lay (N := N) (by omega) R2 b5 (w2.tr x2) x1 (by omega) (fun q hq => by
        by_cases c : q < mZ m.2
        · rw [(x2.2.2.1 q c).1]; exact w5 q hq
        · exact x5 q (by omega)) lok
      refine E2.le ef ?_
      have kS := R2.s0
      rw [g0] at kS FF
      have L0 := kS.lines (ax := ax) m10
      -- the answers
      obtain ⟨cv, hcl, hcr, hcv⟩ : ∃ cv : Int, (if ((a + 1 : Nat) : Int) ≠ ((z + 1 : Nat) : Int) then some ((.inl (some (vI (w32 ((if 0 ≤ (w32 (((a + 1 : Nat) : Int) - ((z + 1 : Nat) : Int))) then (w32 (((a + 1 : Nat) : Int) - ((z + 1 : Nat) : Int))) else 0 - (w32 (((a + 1 : Nat) : Int) - ((z + 1 : Nat) : Int)))) + 1)))), f) : gR) else some (.inl (some (vI 0)), f)) = some ((.inl (some (vI cv)), f) : gR) ∧ (∀ r3 : gMem, (if ((a + 1 : Nat) : Int) ≠ ((z + 1 : Nat) : Int) then some (w32 ((((z + 1 : Nat) : Int) - ((a + 1 : Nat) : Int)) * (if ((z + 1 : Nat) : Int) ≤ ((a + 1 : Nat) : Int) then -1 else 1) + 1), r3) else some (0, r3)) = some (cv, r3)) ∧ g32 cv := by
        rw [w32_i (x := ((a + 1 : Nat) : Int) - ((z + 1 : Nat) : Int)) (by omega) (by omega)]
        by_cases ne : ((a + 1 : Nat) : Int) ≠ ((z + 1 : Nat) : Int)
        · rw [if_pos ne]
          by_cases d : a ≤ z
          · refine ⟨(z : Int) - a + 1, ?_, fun r3 => ?_, ⟨by omega, by omega⟩⟩
            · rw [if_neg (show ¬ (0 : Int) ≤ ((a + 1 : Nat) : Int) - ((z + 1 : Nat) : Int) by omega), w32_i (by omega) (by omega), show (0 : Int) - (((a + 1 : Nat) : Int) - ((z + 1 : Nat) : Int)) + 1 = (z : Int) - a + 1 by omega]
            · rw [if_pos ne, if_neg (show ¬ ((z + 1 : Nat) : Int) ≤ ((a + 1 : Nat) : Int) by omega), w32_i (by omega) (by omega), show (((z + 1 : Nat) : Int) - ((a + 1 : Nat) : Int)) * 1 + 1 = (z : Int) - a + 1 by omega]
          · refine ⟨(a : Int) - z + 1, ?_, fun r3 => ?_, ⟨by omega, by omega⟩⟩
            · rw [if_pos (show (0 : Int) ≤ ((a + 1 : Nat) : Int) - ((z + 1 : Nat) : Int) by omega), w32_i (by omega) (by omega), show (((a + 1 : Nat) : Int) - ((z + 1 : Nat) : Int)) + 1 = (a : Int) - z + 1 by omega]
            · rw [if_pos ne, if_pos (show ((z + 1 : Nat) : Int) ≤ ((a + 1 : Nat) : Int) by omega), w32_i (by omega) (by omega), show (((z + 1 : Nat) : Int) - ((a + 1 : Nat) : Int)) * (-1) + 1 = (a : Int) - z + 1 by omega]
        · exact ⟨0, by rw [if_neg ne], fun r3 => by rw [if_neg ne], by decide, by decide⟩
      refine E2.lv hcl ?_
      -- the line itself
      have LAST : ∀ r1 (φ : Nat → Nat), Ex (LnP h ax) b.2 r1 → LnT h nv r1 ax (Gs 0) (fun j => j < (axL (Gs 0) ax).length) (fun j => gl (axL (Gs 0) ax) (φ j)) (fun j => some (φ j)) → (∀ j, j < (axL (Gs 0) ax).length → j ≠ z → φ j = mvF a z j) → Ev (tw_comeLine N h ax (a : Int) ((tsN fs' (if pa = 40 then 40 else pa + 1) : Nat) : Int) (z : Int) r1) (fun r2 => OpO x h t cdM σ τ (.inl (some (vI cv)), f) (cv, r2)) := by
        intro r1 φ X1 L1 hφ
        refine (t_comeLine (fr := a) (to := z) (by omega) L1 (kk.lnp X1 k40 n32 m10) n32 m10 k122 k40 ha' (by omega) (fun j hj => by omega)).m (fun r2 y => ?_)
        obtain ⟨L2, X2⟩ := y
        have XX : Ex (LnQ h ax) b.2 r2 := (X1.mono (fun a k p => Or.inl p)).tr (X2.mono (fun a k p => Or.inl p))
        have la := lnA (h := h) (ax := ax)
        have cn : mI r2 (if ax ≠ 0 then h + 2 else h + 1) 40 = ((axL (Gs 0) ax).length : Int) := by
          rw [(X1.tr X2).rI (fun p => by unfold LnP at p; omega)]
          unfold axL
          by_cases c0 : ax ≠ 0
          · rw [if_pos c0, if_pos c0]; exact kS.2.1
          · rw [if_neg c0, if_neg c0]; exact kS.1
        have sh3 := ln_sh (n := (axL (Gs 0) ax).length) (mk := fun j => gl (axL (Gs 0) ax) (mvF a z j)) (fl := fun j => some (mvF a z j)) kS n32 m10 XX (L2.cg (fun j hj => by
          unfold upL
          by_cases e : j = z
          · have e1 : mvF a z j = a := by unfold mvF; rw [if_neg (by omega), if_pos e]
            rw [if_pos e, if_pos e]
            (try dsimp only)
            rw [e1]
            exact ⟨Or.inl e, rfl, rfl⟩
          · rw [if_neg e, if_neg e]
            (try dsimp only)
            rw [hφ j hj e]
            exact ⟨Or.inr hj, rfl, rfl⟩)) al cn
        have R4 := FF _ (LnQ h ax) XX (fun a k p => Or.inl p.sl) sh3 (by rw [XX.rI (fun p => by have := p.out; omega)]; exact b6)
        exact ln_end hcv hh b3 b4 f1 f2 (by omega) (by omega) XX R4
      by_cases dir : ((z + 1 : Nat) : Int) ≤ ((a + 1 : Nat) : Int)
      · rw [if_pos dir] at hcr ⊢
        unfold tw_move_j71
        rw [wa, wz]
        refine mv_up (τ := b.2) (S := Gs 0) (nv := nv) (a := a) (b := z) (by omega) n32 m10 k122 k40 ha' (fun r1 X1 L1 => ?_) (a - z) a N _ (by omega) (Nat.le_refl _) (by omega) Ex.rf kk (L0.cg (fun j hj => ?_))
        · refine Ev.c (LAST r1 _ X1 L1 (fun j hj ne => ?_)) (fun r2 _ y => ?_)
          · (try dsimp only)
            unfold mvF pD
            by_cases c1 : j < z
            · rw [if_pos c1, if_neg (by omega), if_pos (by omega)]
            · rw [if_neg c1, if_neg ne]
              by_cases c2 : j ≤ a
              · rw [if_pos (by omega), if_pos (by omega)]
              · rw [if_neg (by omega), if_neg (by omega)]; omega
          · rw [hcr r2]; exact Ev.r y
        · have e : (if a < j ∧ j ≤ a then j - 1 else j) = j := if_neg (by omega)
          exact ⟨hj, by rw [e], by rw [e]⟩
      · rw [if_neg dir] at hcr ⊢
        unfold tw_move_j71
        rw [wa, wz]
        refine mv_dn (τ := b.2) (S := Gs 0) (nv := nv) (a := a) (b := z) (by omega) n32 m10 k122 k40 hz (fun r1 X1 L1 => ?_) (z - a) a N _ (by omega) (Nat.le_refl _) (by omega) Ex.rf kk (L0.cg (fun j hj => ?_))
        · refine Ev.c (LAST r1 _ X1 L1 (fun j hj ne => ?_)) (fun r2 _ y => ?_)
          · (try dsimp only)
            unfold mvF pD
            by_cases c1 : j < z
            · rw [if_pos c1]
              by_cases c2 : j < a
              · rw [if_neg (by omega), if_pos c2]
              · rw [if_pos (by omega), if_neg c2]
            · rw [if_neg c1, if_neg ne, if_neg (by omega), if_neg (by omega)]; omega
          · rw [hcr r2]; exact Ev.r y
        · have e : (if a ≤ j ∧ j < a then j + 1 else j) = j := if_neg (by omega)
          exact ⟨hj, by rw [e], by rw [e]⟩
    · exact E2.lf c4 (E2.rf (by rw [if_neg (by omega)]; decide) (E2.r (OpO.ex R (by decide) (by decide))))
  · rw [if_neg ha, thrRE, if_neg (show ¬ ((0 : Int) ≤ ax ∧ ax ≤ 1) by omega)]
    exact E2.rf (by decide) (E2.r (OpO.ex R (by decide) (by decide)))
end State32
