/-! ===== PHASE 2: the act insert ===== -/
section State31
variable {N x h u b nv nv' pa un fs i t s k n a A j : Nat} {σ σ' σ1 τ τ' τ'' r f : gMem} {P : Nat → Nat → Prop} {W : Nat → Prop} {own rt : Nat → Nat} {S S' : Sh} {Gs : Nat → Sh} {g : Nat → Nat → Vl} {v w p q : Int} {ax : Int} {mk : Nat → Int} {fl : Nat → Option Nat}
/-- what an act on lines writes of the twin's working sheet -/
def LnQ (h : Nat) (ax : Int) (a k : Nat) : Prop := LnP h ax a k ∨ (a = (if ax ≠ 0 then h + 2 else h + 1) ∧ k = 40)
theorem lnA : (if ax ≠ 0 then h + 2 else h + 1) = h + 1 ∨ (if ax ≠ 0 then h + 2 else h + 1) = h + 2 := by by_cases c : ax ≠ 0 <;> simp [c]
theorem LnQ.sl {a k : Nat} (p : LnQ h ax a k) : SlP h 40 a k := by
  rcases p with p | p
  · exact p.sl
  · have := lnA (h := h) (ax := ax)
    exact Or.inl ⟨by omega, p.2⟩
theorem LnQ.out {a k : Nat} (p : LnQ h ax a k) : h + 1 ≤ a ∧ a ≤ h + 5 := by have := p.sl; unfold SlP at this; omega
theorem LnQ.co {a k : Nat} (p : LnQ h ax a k) : ¬ CoP τ h a k := Qt.co (by have := p.out; unfold Qt; omega)
theorem LnQ.grw (e : Ex (LnQ h ax) τ r) : Grw τ r h := by
  have n : ∀ k, ¬ LnQ h ax h k := fun k p => by have := p.out; omega
  unfold Grw
  rw [e.rI (n 25), e.rI (n 19), e.rI (n 24)]
  exact ⟨Int.le_refl _, Int.le_refl _, Int.le_refl _⟩
theorem ShT.lnq (k : ShT τ h nv u S) (e : Ex (LnQ h ax) τ r) (hu : u ≠ 40) (n1 : S.1.1.length ≤ 32) (n2 : S.1.2.length ≤ 10) : ShT r h nv u S :=
  k.ex e (fun a k p q => by have := p.sl; unfold SlP at this q; omega) (fun a k p => p.co) (LnQ.grw e) (Nat.le_refl _) n1 n2
/-- the working sheet that its lines make -/
theorem ln_sh (kS : ShT τ h nv 40 S) (n1 : S.1.1.length ≤ 32) (n2 : S.1.2.length ≤ 10) (X : Ex (LnQ h ax) τ r) (L : LnT h nv r ax S (fun j => j < n) mk fl) (hn : n ≤ axM ax) (cn : mI r (if ax ≠ 0 then h + 2 else h + 1) 40 = (n : Int)) : ShT r h nv 40 (lnS S ax n mk fl) := by
  refine L.sheet hn n2 ?_ (ln_co kS n1 n2 ?_)
  · unfold tLn
    by_cases c : ax ≠ 0
    · rw [if_pos c] at cn ⊢; exact cn
    · rw [if_neg c] at cn ⊢; exact cn
  · by_cases c : ax ≠ 0
    · rw [if_pos c]
      exact ⟨X.rI (fun p => by unfold LnQ LnP at p; rw [if_pos c] at p; omega), fun j hj => X.rI (fun p => by unfold LnQ LnP at p; rw [if_pos c] at p; omega)⟩
    · rw [if_neg c]
      exact ⟨X.rI (fun p => by unfold LnQ LnP at p; rw [if_neg c] at p; omega), fun j hj => X.rI (fun p => by unfold LnQ LnP at p; rw [if_neg c] at p; omega)⟩
/-- where the next mark of an axis is -/
def kAx (ax : Int) : Nat := if ax ≠ 0 then 7 else 6
theorem kAx_v : kAx ax = 6 ∨ kAx ax = 7 := by unfold kAx; by_cases c : ax ≠ 0 <;> simp [c]
theorem ins_c {v2 : Int} : (if ax ≠ 0 then x1_insert_j70 N x ax v2 A (mI r x 22) r else x1_insert_j70 N x ax v2 A (mI r x 21) r) = if mT r x = 1 then x1_insert_j99 N x ax v2 A (mI r x (kAx ax + 15)) (wI r x (kAx ax + 15) (w32 (mI r x (kAx ax + 15) + 1))) else none := by
  unfold x1_insert_j70 kAx
  by_cases c : ax ≠ 0
  · simp only [if_pos c]; rfl
  · simp only [if_neg c]; rfl
theorem ins_t {q' : Int} : (if ax ≠ 0 then tw_insert_j140 N h ax n (mI r h 7) q' ax 40 r else tw_insert_j140 N h ax n (mI r h 6) q' ax 40 r) = (tw_setLine h 40 ax q' (mI r h (kAx ax)) r).bind fun m => some (w32 ((n : Int) + 1), wI m h (kAx ax) (w32 (mI m h (kAx ax) + 1))) := by
  unfold tw_insert_j140 kAx
  by_cases c : ax ≠ 0
  · simp only [if_pos c]; rfl
  · simp only [if_neg c]; rfl
theorem nodup_gl {l : List Int} (d : l.Nodup) {i j : Nat} (hi : i < l.length) (hj : j < l.length) (e : gl l i = gl l j) : i = j := by
  have := congrArg (pl l) e
  rw [pl_gl d hi, pl_gl d hj] at this; omega
theorem ShP.axs {nr nc V : Int} (s : ShP nr nc V S) : (axL S ax).Nodup ∧ (∀ m ∈ axL S ax, 0 ≤ m ∧ m < if ax ≠ 0 then nc else nr) ∧ 0 < (axL S ax).length := by
  obtain ⟨s1, s2, s3, s4, s5, s6, -⟩ := s
  unfold axL
  by_cases c : ax ≠ 0
  · rw [if_pos c, if_pos c]; exact ⟨s2, s4, s6⟩
  · rw [if_neg c, if_neg c]; exact ⟨s1, s3, s5⟩
theorem gl_mm {l : List Int} {i : Nat} (h : i < l.length) : gl l i ∈ l := by
  unfold gl
  rw [List.getElem?_eq_getElem h]
  exact List.getElem_mem h
/-- a new line's lines -/
def mkI (l : List Int) (q : Nat) (v : Int) (j : Nat) : Int := if j < q then gl l j else if j = q then v else gl l (j - 1)
def flI (q : Nat) (j : Nat) : Option Nat := if j < q then some j else if j = q then none else some (j - 1)
theorem ok_ins {q : Nat} {v : Int} (d : (axL S ax).Nodup) (m : ∀ m ∈ axL S ax, 0 ≤ m ∧ m < v) (v0 : 0 ≤ v) (hq : q ≤ (axL S ax).length) (ht : (axL S ax).length + 1 ≤ axM ax) : LnOk S ax ((axL S ax).length + 1) (mkI (axL S ax) q v) (flI q) (v + 1) := by
  have mm : ∀ i, i < (axL S ax).length → 0 ≤ gl (axL S ax) i ∧ gl (axL S ax) i < v := fun i hi => m _ (gl_mm hi)
  refine ⟨by omega, ht, fun i j hi hj e => ?_, fun j hj => ?_, fun j hj => ⟨fun y hy => ?_, fun hy => ?_⟩⟩
  · unfold mkI at e
    by_cases a1 : i < q
    · rw [if_pos a1] at e
      have z1 := mm i (by omega)
      by_cases b1 : j < q
      · rw [if_pos b1] at e
        exact nodup_gl d (by omega) (by omega) e
      · rw [if_neg b1] at e
        by_cases b2 : j = q
        · rw [if_pos b2] at e; omega
        · rw [if_neg b2] at e
          have := nodup_gl d (show i < _ by omega) (show j - 1 < _ by omega) e; omega
    · rw [if_neg a1] at e
      by_cases a2 : i = q
      · rw [if_pos a2] at e
        by_cases b1 : j < q
        · rw [if_pos b1] at e
          have z1 := mm j (by omega); omega
        · rw [if_neg b1] at e
          by_cases b2 : j = q
          · omega
          · rw [if_neg b2] at e
            have z1 := mm (j - 1) (by omega); omega
      · rw [if_neg a2] at e
        by_cases b1 : j < q
        · rw [if_pos b1] at e
          have := nodup_gl d (show i - 1 < _ by omega) (show j < _ by omega) e; omega
        · rw [if_neg b1] at e
          by_cases b2 : j = q
          · rw [if_pos b2] at e
            have z1 := mm (i - 1) (by omega); omega
          · rw [if_neg b2] at e
            have := nodup_gl d (show i - 1 < _ by omega) (show j - 1 < _ by omega) e; omega
  · unfold mkI
    by_cases b1 : j < q
    · rw [if_pos b1]; have := mm j (by omega); omega
    · rw [if_neg b1]
      by_cases b2 : j = q
      · rw [if_pos b2]; omega
      · rw [if_neg b2]; have := mm (j - 1) (by omega); omega
  · unfold flI at hy
    unfold mkI
    by_cases b1 : j < q
    · rw [if_pos b1] at hy ⊢
      obtain rfl := Option.some.inj hy
      exact ⟨by omega, rfl⟩
    · rw [if_neg b1] at hy ⊢
      by_cases b2 : j = q
      · rw [if_pos b2] at hy; cases hy
      · rw [if_neg b2] at hy ⊢
        obtain rfl := Option.some.inj hy
        exact ⟨by omega, rfl⟩
  · unfold flI at hy
    unfold mkI
    by_cases b1 : j < q
    · rw [if_pos b1] at hy; cases hy
    · rw [if_neg b1] at hy ⊢
      by_cases b2 : j = q
      · rw [if_pos b2]
        intro z
        have := m _ z; omega
      · rw [if_neg b2] at hy; cases hy
/-- insert -/
theorem op_insert {v2 : Int} (hN : 2000 ≤ N) (ht : t ≤ 1000) (R : RL x h t σ τ) : E2 (x1_insert N x ax v2 σ) (tw_insert N h ax v2 τ) (OpO x h t cdI σ τ) := by
  obtain ⟨nv, pa, un, fs, Gs, g, own, rt, R⟩ := R
  have l := R.1.1
  have hh := R.1.2.1.1
  obtain ⟨e8, c⟩ := R.c0
  have Rt := R.t0 (v := 0)
  have s0 := Rt.s0
  have i0 : mI (wI τ h 0 0) h 0 = 0 := by rw [mIwI2 ⟨rfl, rfl⟩, w32_i (by omega) (by omega)]
  have m10 := c.1.2.2.2
  have n32 := c.1.2.1.2.2.1
  have kA := axA_ls (ax := ax) c
  have al := axL_le (ax := ax) n32 m10
  have a32 := axM_le ax
  have xo := (R.1.2.2.2.1.1 0 (Or.inl rfl)).2.2 _ (Or.inl rfl)
  unfold x1_insert tw_insert
  refine E2.lg l.1.1 (E2.le (c_marksOf (ax := ax) l e8 c) (E2.rl (E2.re (t_in ax 0 1) ?_)))
  by_cases ha : ax = 0 ∨ ax = 1
  · rw [if_pos ha, thrR, if_pos (show (0 : Int) ≤ ax ∧ ax ≤ 1 by omega)]
    refine E2.rg (by decide) (E2.re (s0.axn (by decide)) (E2.re (t_in v2 1 _) ?_))
    have wn1 : w32 (((axL (Gs 0) ax).length : Int) + 1) = (((axL (Gs 0) ax).length + 1 : Nat) : Int) := by rw [w32_i (by omega) (by omega)]; omega
    have w0 : w32 ((axL (Gs 0) ax).length : Int) = ((axL (Gs 0) ax).length : Int) := w32_i (by omega) (by omega)
    by_cases c1 : v2 < 1
    · exact E2.lg c1 (E2.rf (by rw [if_neg (by omega)]; decide) (E2.r (OpO.ex R (by decide) (by decide))))
    refine E2.lf c1 (E2.lg kA.1 ?_)
    rw [kA.2.1, wn1, w0]
    by_cases c2 : v2 ≤ (((axL (Gs 0) ax).length + 1 : Nat) : Int)
    · obtain ⟨q, rfl⟩ : ∃ q : Nat, v2 = ((q + 1 : Nat) : Int) := ⟨(v2 - 1).toNat, by omega⟩
      have hq : q ≤ (axL (Gs 0) ax).length := by omega
      refine E2.lg c2 (E2.rg (by rw [if_pos (by omega)]; decide) ?_)
      have J : E2 (x1_insert_j40 N x ax ((q + 1 : Nat) : Int) (axA σ (rt 0) ax) (axM ax : Nat) ((axL (Gs 0) ax).length : Nat) σ) (tw_insert_j57 N h ax ((q + 1 : Nat) : Int) ((axL (Gs 0) ax).length : Nat) (axM ax : Nat) ((axL (Gs 0) ax).length : Nat) (wI τ h 0 0)) (OpO x h t cdI σ τ) := by
        unfold x1_insert_j40 tw_insert_j57
        by_cases cm : (((axL (Gs 0) ax).length : Nat) : Int) ≠ ((axM ax : Nat) : Int)
        · have hM : (axL (Gs 0) ax).length + 1 ≤ axM ax := by omega
          refine E2.lg cm (E2.rg cm (E2.lg l.1.1 ?_))
          obtain ⟨own', rt', fs', r, er, b, eb, b1, R2, b3, b4, b5, b6⟩ := both_step (N := N) (by omega) Rt
          refine E2.le er (E2.re eb ?_)
          have lr := R2.1.1
          have g0 := stG_0 pa Gs
          have rt0 : rt' 0 = rt 0 := by rw [← R2.c0.1, b3.2.1, e8]
          obtain ⟨kk, k40, k122⟩ := kept_k R2
          rw [ins_c, b1]
          refine E2.lg lr.1.1 ?_
          have nx := R2.2.2.1.2.2.1
          unfold Rnx at nx
          have k67 := kAx_v (ax := ax)
          have idr : mI r x (kAx ax + 15) = mI b.2 h (kAx ax) := by
            rcases k67 with e | e <;> rw [e]
            · exact nx.1
            · exact nx.2.1
          have idb : 0 ≤ mI b.2 h (kAx ax) ∧ mI b.2 h (kAx ax) ≤ 8 + t := by rcases k67 with e | e <;> rw [e] <;> omega
          have idx : (if ax ≠ 0 then mI b.2 h 7 else mI b.2 h 6) = mI b.2 h (kAx ax) := by
            unfold kAx
            by_cases c0 : ax ≠ 0
            · rw [if_pos c0, if_pos c0]
            · rw [if_neg c0, if_neg c0]
          have v32 : w32 (mI b.2 h (kAx ax) + 1) = mI b.2 h (kAx ax) + 1 := w32_i (by omega) (by omega)
          have R3 := R2.nx (k := kAx ax) (v := mI b.2 h (kAx ax) + 1) k67 rfl ht
          rw [idr, v32]
          have kA2 := axA_ls (ax := ax) R2.c0.2
          have kA3 := axA_ls (ax := ax) R3.c0.2
          have eA : axA r (rt' 0) ax = axA σ (rt 0) ax := by
            unfold axA
            rw [rt0]
            exact b3.1.rR l.ok (by rw [c.1.1]; decide) (by unfold StW; unfold OutS at xo; omega) _
          have eA3 : axA (wI r x (kAx ax + 15) (mI b.2 h (kAx ax) + 1)) (rt' 0) ax = axA σ (rt 0) ax := by
            rw [← eA]; unfold axA; rw [mR_wI]
          rw [eA3, g0] at kA3
          have s3 := R3.c0
          have ls := R3.1.1
          obtain ⟨ro, hro⟩ : ∃ m, m = wI r x (kAx ax + 15) (mI b.2 h (kAx ax) + 1) := ⟨_, rfl⟩
          have i10 : mI ro x 10 = 0 := by rw [hro, mIwI1 (by omega)]; exact b5
          have i17 : mI ro x 17 = mI r x 17 := by rw [hro, mIwI1 (by omega)]
          have Kro : Kz (NoT x h) r ro := by
            rw [hro]
            have K00 : Kz (NoT x h) r r := Kz.rf lr.ok
            exact K00.wI (Or.inr (by unfold NoT; omega))
          have zro : mZ ro = mZ r ∧ mS ro = mS r := by rw [hro]; exact ⟨rfl, rfl⟩
          rw [← hro] at R3 kA3 s3 ls ⊢
          clear eA3
          unfold x1_insert_j99
          refine E2.lg ls.1.1 ?_
          rw [show w32 (((q + 1 : Nat) : Int) - 1) = (q : Int) by rw [w32_i (by omega) (by omega)]; omega, s3.1]
          have p3 := R2.p0.axs (ax := ax)
          rw [g0, idx] at p3
          obtain ⟨m, em, m1, w1, w2, w3, w4, w5⟩ := c_with (at' := q) (v := mI b.2 h (kAx ax)) ls.ok kA3 hq (by omega) (show g32 _ from ⟨by omega, by omega⟩)
          refine E2.le em ?_
          rw [m1]
          have w1' : LsC m.2 (mZ ro) (lst ((axL (Gs 0) ax).length + 1) (mkI (axL (Gs 0) ax) q (mI b.2 h (kAx ax)))) := w1
          refine E2.lg (by rw [w2.tag ls.ok (by rw [s3.2.1.1]; decide)]; exact s3.2.1.1) ?_
          have lok : LnOk (stG pa Gs 0) ax ((axL (Gs 0) ax).length + 1) (mkI (axL (Gs 0) ax) q (mI b.2 h (kAx ax))) (flI q) (if ax ≠ 0 then mI (wI b.2 h (kAx ax) (mI b.2 h (kAx ax) + 1)) h 7 else mI (wI b.2 h (kAx ax) (mI b.2 h (kAx ax) + 1)) h 6) := by
            have e2 : (if ax ≠ 0 then mI (wI b.2 h (kAx ax) (mI b.2 h (kAx ax) + 1)) h 7 else mI (wI b.2 h (kAx ax) (mI b.2 h (kAx ax) + 1)) h 6) = mI b.2 h (kAx ax) + 1 := by
              unfold kAx at v32 ⊢
              by_cases c0 : ax ≠ 0
              · simp only [if_pos c0] at v32 ⊢
                rw [mIwI2 ⟨rfl, rfl⟩]; exact v32
              · simp only [if_neg c0] at v32 ⊢
                rw [mIwI2 ⟨rfl, rfl⟩]; exact v32
            rw [e2, g0]
            exact ok_ins p3.1 p3.2.1 idb.1 hq hM
          obtain ⟨f, ef, f1, f2, f3, f4, f5, own3, FF⟩ := both_lay (N := N) (by omega) R3 i10 w2 w1' (Nat.le_refl _) w5 lok
          refine E2.le ef (E2.lg (f5 _ kA3.1).2 ?_)
          rw [(f5 _ kA3.1).1, kA3.2.1]
          refine E2.re (t_setLines (by decide)) (E2.lv rfl ?_)
          have la := lnA (h := h) (ax := ax)
          have kS := R2.s0
          rw [g0] at kS FF
          have X0 : Ex (LnQ h ax) b.2 (wI b.2 (if ax ≠ 0 then h + 2 else h + 1) 40 (w32 (((axL (Gs 0) ax).length : Int) + 1))) := Ex.rf.I (Or.inr ⟨rfl, rfl⟩)
          have L0 := ((kS.lines (ax := ax) m10).ex n32 m10 (fun j hj => by omega) (Ex.rf.I (P := fun a k => a = (if ax ≠ 0 then h + 2 else h + 1) ∧ k = 40) (v := w32 (((axL (Gs 0) ax).length : Int) + 1)) ⟨rfl, rfl⟩) (fun a k p => ⟨fun y => by unfold LnP at y; omega, Qt.co (by unfold Qt; omega)⟩) (LnQ.grw X0))
          have cn0 : mI (wI b.2 (if ax ≠ 0 then h + 2 else h + 1) 40 (w32 (((axL (Gs 0) ax).length : Int) + 1))) (if ax ≠ 0 then h + 2 else h + 1) 40 = (((axL (Gs 0) ax).length + 1 : Nat) : Int) := by rw [mIwI2 ⟨rfl, rfl⟩, wn1, w32_i (by omega) (by omega)]
          refine ins_l (τ := wI b.2 (if ax ≠ 0 then h + 2 else h + 1) 40 (w32 (((axL (Gs 0) ax).length : Int) + 1))) (S := Gs 0) (nv := nv) (at' := q + 1) (by omega) n32 m10 k122 k40 (by omega) hM (fun r1 X1 L1 => ?_) ((axL (Gs 0) ax).length - q) (q + 1) N _ (by omega) (Nat.le_refl _) (by omega) Ex.rf (kk.lnq X0 k40 n32 m10) (L0.cg (fun j hj => ?_))
          · refine Ev.c (t_emptyLine (to := q) (by omega) L1 n32 m10 (by omega) (fun j hj => by omega)) (fun r2 _ z => ?_)
            obtain ⟨L2, X2⟩ := z
            have X02 : Ex (LnQ h ax) b.2 r2 := (X0.tr (X1.mono (fun a k p => Or.inl p))).tr (X2.mono (fun a k p => Or.inl p))
            have id2 : mI r2 h (kAx ax) = mI b.2 h (kAx ax) := X02.rI (fun p => by have := p.out; omega)
            rw [ins_t, id2, t_setLine (to := q) (by omega), Option.bind_some]
            refine Ev.r ?_
            have L3 := L2.mark (to := q) (v := mI b.2 h (kAx ax)) n32 m10 (by omega) ⟨by omega, by omega⟩
            have nA := mlA_ne (h := h) (ax := ax)
            have X03 : Ex (LnQ h ax) b.2 (wI r2 (mlA h ax) (mlK ax q) (mI b.2 h (kAx ax))) := X02.I (Or.inl (mlP (by omega)))
            have id3 : mI (wI r2 (mlA h ax) (mlK ax q) (mI b.2 h (kAx ax))) h (kAx ax) = mI b.2 h (kAx ax) := X03.rI (fun p => by have := p.out; omega)
            rw [id3, v32, wn1]
            have cn : mI (wI r2 (mlA h ax) (mlK ax q) (mI b.2 h (kAx ax))) (if ax ≠ 0 then h + 2 else h + 1) 40 = (((axL (Gs 0) ax).length + 1 : Nat) : Int) := by
              have XL : Ex (LnP h ax) (wI b.2 (if ax ≠ 0 then h + 2 else h + 1) 40 (w32 (((axL (Gs 0) ax).length : Int) + 1))) (wI r2 (mlA h ax) (mlK ax q) (mI b.2 h (kAx ax))) := (X1.tr X2).I (mlP (by omega))
              rw [XL.rI (fun p => by unfold LnP at p; omega)]; exact cn0
            have sh3 := ln_sh (n := (axL (Gs 0) ax).length + 1) (mk := mkI (axL (Gs 0) ax) q (mI b.2 h (kAx ax))) (fl := flI q) kS n32 m10 X03 (L3.cg (fun j hj => ⟨by omega, ?_, ?_⟩)) hM cn
            · have Xk : Ex (fun a k => a = h ∧ k = kAx ax) (wI r2 (mlA h ax) (mlK ax q) (mI b.2 h (kAx ax))) (wI (wI r2 (mlA h ax) (mlK ax q) (mI b.2 h (kAx ax))) h (kAx ax) (mI b.2 h (kAx ax) + 1)) := Ex.rf.I ⟨rfl, rfl⟩
              have snl : (lnS (Gs 0) ax ((axL (Gs 0) ax).length + 1) (mkI (axL (Gs 0) ax) q (mI b.2 h (kAx ax))) (flI q)).1.1.length ≤ 32 ∧ (lnS (Gs 0) ax ((axL (Gs 0) ax).length + 1) (mkI (axL (Gs 0) ax) q (mI b.2 h (kAx ax))) (flI q)).1.2.length ≤ 10 := by
                unfold lnS
                unfold axM at hM
                by_cases c0 : ax ≠ 0
                · rw [if_pos c0] at hM ⊢
                  exact ⟨n32, by show (lst _ _).length ≤ 10; rw [lst_len]; exact hM⟩
                · rw [if_neg c0] at hM ⊢
                  exact ⟨by show (lst _ _).length ≤ 32; rw [lst_len]; exact hM, m10⟩
              have R4 := FF _ (LnQ h ax) (Ex.wI2 X03 (a := h) (i := kAx ax) (v := mI b.2 h (kAx ax) + 1)) (fun a k p => Or.inl p.sl) (sh3.eh Xk (fun a k p => ⟨p.1, by omega, by omega, by omega⟩) snl.1 snl.2) (by rw [mIwI1 (by omega), X03.rI (fun p => by have := p.out; omega)]; exact b6)
              refine ⟨⟨_, _, _, _, _, _, _, _, R4⟩, ⟨((b3.nt hh).tr Kro).tr f1, 0, ?_, ?_, ?_⟩, ?_, Or.inl ⟨_, rfl, rfl, ?_, ⟨by omega, by omega⟩⟩⟩
              · show mI f x 17 = _
                rw [f2, i17, b3.2.2.1 17 (by decide) (by decide) (by decide)]; omega
              · show mZ f ≤ _; have := b3.2.2.2.2.1; omega
              · show mS f ≤ _; have := b3.2.2.2.2.2; omega
              · exact ((((Ex.rf.I (by unfold TwA; omega)).tr (b4.mono (fun a k p => p.ta))).tr (X03.mono (fun a k p => by have := p.out; unfold TwA; omega))).I (by unfold TwA; omega))
              · show mI (wI _ h (kAx ax) _) h 0 = 0
                rw [mIwI1 (by omega), X03.rI (fun p => by have := p.out; omega), b4.rI (fun p => by have := p.out; omega)]; exact i0
            · unfold upL mkI
              by_cases e : j = q
              · rw [if_pos e, if_neg (by omega), if_pos e]
              · rw [if_neg e, if_neg e]
                (try dsimp only)
                by_cases e2 : j < q
                · rw [if_pos e2, if_neg (by omega)]
                · rw [if_neg e2, if_pos (by omega), if_neg e]
            · unfold upL flI
              by_cases e : j = q
              · rw [if_pos e, if_neg (by omega), if_pos e]
              · rw [if_neg e]
                (try dsimp only)
                by_cases e2 : j < q
                · rw [if_pos e2, if_neg (by omega)]
                · rw [if_neg e2, if_neg e, if_pos (by omega)]
          · have e : (if q + 1 ≤ j ∧ j < q + 1 then j - 1 else j) = j := if_neg (by omega)
            exact ⟨by omega, by rw [e], by rw [e]⟩
        · exact E2.lf cm (E2.rf cm (E2.r (OpO.ex R (by decide) (by decide))))
      have eM := axM_v ha
      by_cases c0 : ax ≠ 0
      · rw [if_pos c0] at eM
        rw [eM] at J
        exact E2.lg c0 (E2.rg c0 J)
      · rw [if_neg c0] at eM
        rw [eM] at J
        exact E2.lf c0 (E2.rf c0 J)
    · exact E2.lf c2 (E2.rf (by rw [if_neg (by omega)]; decide) (E2.r (OpO.ex R (by decide) (by decide))))
  · rw [if_neg ha, thrRE, if_neg (show ¬ ((0 : Int) ≤ ax ∧ ax ≤ 1) by omega)]
    exact E2.rf (by decide) (E2.r (OpO.ex R (by decide) (by decide)))
end State31
