/-! ===== PHASE 2: reading: new nodes; what is gone; texts in quotes ===== -/
section Read12
variable {N x h hi all nv sh M lu0 b b' p q op pa pi : Nat} {bA : Nat → Int} {f : Int → List Int × List Int} {σ σ' σ'' τ τ' τ'' s r σ0 τ0 σ1 τ2 : gMem} {p0 pa0 nd k : Nat}
/-- a new cell may be written -/
theorem CF.wI' {i : Nat} {v : Int} (c : CF x σ s k) (hn : mZ σ ≤ nd) : CF x σ (wI s nd i v) k := by
  obtain ⟨⟨z1, z2, z3, z4⟩, k2, ⟨i1, i4, i5, i15⟩, kz, ks, lt, np, pl, pm⟩ := c
  have f : ∀ a j, a < mZ σ → mI (wI s nd i v) a j = mI s a j := fun a j ha => mIwI1 (by omega)
  exact ⟨⟨z1, z2, z3, fun a ha hw j => ⟨by rw [f a j ha]; exact (z4 a ha hw j).1, (z4 a ha hw j).2⟩⟩, k2, ⟨by rw [f _ _ (by omega)]; exact i1, by rw [f _ _ (by omega)]; exact i4, by rw [f _ _ (by omega)]; exact i5, by rw [f _ _ (by omega)]; exact i15⟩, kz, ks, lt, np, by rw [f _ _ (by omega)]; exact pl, pm⟩
theorem CF.wL' {i : Nat} {v : Int} (c : CF x σ s k) (hn : mZ σ ≤ nd) : CF x σ (wL s nd i v) k := by
  obtain ⟨⟨z1, z2, z3, z4⟩, k2, i145, kz, ks, lt, np, pl, pm⟩ := c
  exact ⟨⟨z1, z2, z3, fun a ha hw j => ⟨(z4 a ha hw j).1, by rw [mL_wL, if_neg (fun z => by omega)]; exact (z4 a ha hw j).2.1, (z4 a ha hw j).2.2⟩⟩, k2, i145, kz, ks, lt, np, pl, pm⟩
theorem CF.wR' {i v : Nat} (c : CF x σ s k) (hn : mZ σ ≤ nd) (h18 : mT s nd = 18 → i = 1 → v ≠ x + 1430) : CF x σ (wR s nd i v) k := by
  obtain ⟨⟨z1, z2, z3, z4⟩, k2, i145, kz, ks, lt, np, pl, pm⟩ := c
  refine ⟨⟨z1, z2, z3, fun a ha hw j => ⟨(z4 a ha hw j).1, (z4 a ha hw j).2.1, by rw [mR_wR, if_neg (fun z => by omega)]; exact (z4 a ha hw j).2.2⟩⟩, fun j => by rw [mR_wR, if_neg (fun z => by omega)]; exact k2 j, i145, kz, ks, lt, fun q hq ht => ?_, pl, fun j hj => by rw [mR_wR, if_neg (fun z => by omega)]; exact pm j hj⟩
  have ht' : mT s q = 18 := ht
  rw [mR_wR]
  by_cases e : q = nd ∧ 1 = i
  · rw [if_pos e]; exact h18 (by rw [← e.1]; exact ht') e.2.symm
  · rw [if_neg e]; exact np q hq ht'
/-- an int of the reader is written -/
theorem CF.wQ {i : Nat} {v : Int} (c : CF x σ s k) (hi : i ≠ 1 ∧ i ≠ 4 ∧ i ≠ 5 ∧ i ≠ 11 ∧ i ≠ 15) : CF x σ (wI s (x + 1429) i v) k := by
  obtain ⟨⟨z1, z2, z3, z4⟩, k2, ⟨i1, i4, i5, i15⟩, kz, ks, lt, np, pl, pm⟩ := c
  exact ⟨⟨z1, z2, z3, fun a ha hw j => ⟨by rw [mIwI1 (fun z => hw (Or.inl z.1))]; exact (z4 a ha hw j).1, (z4 a ha hw j).2⟩⟩, k2, ⟨by rw [mIwI1 (by omega)]; exact i1, by rw [mIwI1 (by omega)]; exact i4, by rw [mIwI1 (by omega)]; exact i5, by rw [mIwI1 (by omega)]; exact i15⟩, kz, ks, lt, np, by rw [mIwI1 (by omega)]; exact pl, pm⟩
/-- a new cell -/
theorem CF.wN' {t n : Nat} (c : CF x σ s k) (t0 : t ≠ 18 ∨ True) (h18 : t = 18 → 0 ≠ x + 1430) (hn : n ≤ 40) : CF x σ (wN s t n) (k + 1) := by
  obtain ⟨⟨z1, z2, z3, z4⟩, k2, ⟨i1, i4, i5, i15⟩, kz, ks, lt, np, pl, pm⟩ := c
  have nI : ∀ a j, a < mZ s → mI (wN s t n) a j = mI s a j := fun a j ha => by rw [mI_wN, if_neg (by omega)]
  refine ⟨⟨by rw [mZ_wN]; omega, fun a ha => ?_, fun a ha => ⟨?_, ?_⟩, fun a ha hw j => ⟨?_, ?_, ?_⟩⟩, fun j => ?_, ⟨?_, ?_, ?_, ?_⟩, by rw [mZ_wN]; omega, by rw [mS_wN]; omega, lt, fun q hq ht => ?_, by rw [nI _ _ (by omega)]; exact pl, fun j hj => by rw [mR_wN, if_neg (by omega)]; exact pm j hj⟩
  · rw [mZ_wN] at ha; rw [mT_wN, if_neg (by omega)]; exact z2 a (by omega)
  · rw [mT_wN, if_neg (by omega)]; exact (z3 a ha).1
  · rw [mN_wN, if_neg (by omega)]; exact (z3 a ha).2
  · rw [nI _ _ (by omega)]; exact (z4 a ha hw j).1
  · rw [mL_wN, if_neg (by omega)]; exact (z4 a ha hw j).2.1
  · rw [mR_wN, if_neg (by omega)]; exact (z4 a ha hw j).2.2
  · rw [mR_wN, if_neg (by omega)]; exact k2 j
  · rw [nI _ _ (by omega)]; exact i1
  · rw [nI _ _ (by omega)]; exact i4
  · rw [nI _ _ (by omega)]; exact i5
  · rw [nI _ _ (by omega)]; exact i15
  · by_cases e : q = mZ s
    · rw [mR_wN, if_pos e]; omega
    · rw [mT_wN, if_neg e] at ht
      rw [mR_wN, if_neg e]; exact np q hq ht
theorem CF.wCI' {a sp dp n : Nat} (c : CF x σ s k) (hn : mZ σ ≤ nd) : CF x σ (wCI s a sp nd dp n) k := by
  obtain ⟨⟨z1, z2, z3, z4⟩, k2, ⟨i1, i4, i5, i15⟩, kz, ks, lt, np, pl, pm⟩ := c
  have f : ∀ b j, b < mZ σ → mI (wCI s a sp nd dp n) b j = mI s b j := fun b j hb => by rw [mI_wCI, if_neg (by omega)]
  exact ⟨⟨z1, z2, z3, fun a ha hw j => ⟨by rw [f a j ha]; exact (z4 a ha hw j).1, (z4 a ha hw j).2⟩⟩, k2, ⟨by rw [f _ _ (by omega)]; exact i1, by rw [f _ _ (by omega)]; exact i4, by rw [f _ _ (by omega)]; exact i5, by rw [f _ _ (by omega)]; exact i15⟩, kz, ks, lt, np, by rw [f _ _ (by omega)]; exact pl, pm⟩
theorem CF.rf (c : CR x hi all nv sh bA f σ) : CF x σ σ 0 := CF.ex (P := fun _ _ => False) Ex.rf c.2.2.2.2.1 c.lt (fun _ _ p => p.elim) (Or.inl rfl)
/-- a part is made by the twin -/
theorem tw_new {k : Nat} (hN : 500 ≤ N) (S : S2 x h hi all nv sh M lu0 bA f σ τ p q op pa pi) (hk : k ≤ 6) : Ev (tw_part N h (k : Int) 0 τ) (fun r => r.1 = ((M + pa : Nat) : Int) ∧ Ex (PtP h (M + pa)) τ r.2 ∧ mI r.2 h 56 = ((pa + 1 : Nat) : Int) ∧ PAt r.2 h (M + pa) (k : Int) 0 1 ∧ (∀ j, j ≠ 56 → mI r.2 h j = mI τ h j) ∧ TF (lu0 + hi) h τ r.2 (M + pa) ∧ TR h hi all nv M bA f r.2) := by
  obtain ⟨c, t, ⟨s1, s2, s3, s4⟩, ⟨t1, t2, t3, t4, t5⟩, ⟨l1, l2, l3⟩, b1, b2, b3, b4, b5, b6, b7⟩ := S
  have tx := c.1.2.2.2.2.2.2.2
  have h4 : hi ≤ 400 := by have := tx.2.2.1; have := tx.2.2.2; omega
  refine (t_part (k := k) (ms := []) hN t.2.2.2.2.1 t.2.2.2.2.2 t4 (by omega) t5 (by omega) (by decide) trivial).m (fun r z => ?_)
  obtain ⟨z1, z2, z3, z4⟩ := z
  have tf1 : TF (lu0 + hi) h τ r.2 (M + pa) := TF.ex z2 b5 (fun a j y => by
    rcases y with y | ⟨o, o1, o2, o3, o4⟩
    · exact Or.inl ⟨y.1, by omega⟩
    · exact Or.inr ⟨o, o1, o2, o3, by omega⟩)
  exact ⟨z1, z2, z3, z4, fun j hj => z2.rI (fun y => by rcases y with y | ⟨o, o1, o2, o3, o4⟩ <;> omega), tf1, t.tf tf1⟩
/-- one answer for all -/
theorem ev_all {β : Type} {Y : Option gMem} {P : β → Prop} {Q : β → gMem → Prop} (h0 : Ev Y (fun _ => True)) (h1 : ∀ y, P y → Ev Y (Q y)) : Ev Y (fun r => ∀ y, P y → Q y r) := by
  obtain ⟨r, e, -⟩ := h0
  refine ⟨r, e, fun y hy => ?_⟩
  obtain ⟨r', e', z⟩ := h1 y hy
  rw [e] at e'
  rw [Option.some.inj e']; exact z
/-- what was there is gone -/
theorem rd_gone (hN : 500 ≤ N) (S : S2 x h hi all nv sh M lu0 bA f σ τ q q op pa pi) (hr : isRf bA q = true) : E2 (x6_gone N (x + 1429) σ) ((tw_part N h 4 0 τ).bind (fun x31 => (tw_next N h x31.2).bind (fun x35 => some x35))) (Out2 x h hi all nv sh M lu0 bA f σ τ q op pa pi) := by
  have S0 := S
  obtain ⟨c, t, ⟨s1, s2, s3, s4⟩, ⟨t1, t2, t3, t4, t5⟩, ⟨l1, l2, l3⟩, b1, b2, b3, b4, b5, b6, b7⟩ := S
  have tx := c.1.2.2.2.2.2.2.2
  have h4 : hi ≤ 400 := by have := tx.2.2.1; have := tx.2.2.2; omega
  have rf := of_decide_eq_true hr
  have q3 : q + 3 < hi := tx.lt (by omega)
  have kk : tkK bA q = 5 := by
    unfold tkK isD isL
    rw [if_neg (by omega), if_neg (by rw [decide_eq_true_iff]; omega), if_neg (by omega), if_neg (by rw [decide_eq_true_iff]; omega), hr, if_pos rfl]
  have e49 := t2.2.2.2.2.2.1 kk
  refine E2.rc (tw_new (k := 4) hN S0 (by decide)) (fun x31 z => ?_)
  obtain ⟨z1, z2, z3, z4, z5, z6, z7⟩ := z
  obtain ⟨p1, p2, p3, p4, p5, p6, p7, p8, p9, p10, p11, p12⟩ := z4
  have L : LabT x31.2 h (M + pa) mkR := ⟨by have := t.2.2.2.2.2; omega, p1, p2, p4, ⟨0, p5, Nat.zero_le _, fun i hi => absurd hi (Nat.not_lt_zero _)⟩, p6, p7, p8, p9, p10, Or.inl p11, p12⟩
  have po : PtOk mkR := Or.inr (Or.inr (Or.inr (Or.inl rfl)))
  have R1 : RwT x31.2 h (M + pa) nv [mkR] := RwT.one L ⟨0, p5, by have := z5 19 (by decide); show ((0 + 0 : Nat) : Int) ≤ _; omega⟩ po p11 (show 0 < 16 by decide) (show (-1 : Int) < nv by omega) p3 rfl (show 4 ≤ 6 by decide)
  -- the component
  have w4 : w32 ((q : Int) + 4) = ((q + 4 : Nat) : Int) := by rw [w32_i (by omega) (by omega)]; omega
  obtain ⟨bb, y1, y2⟩ := c_spells (p := q) (q := q + 4) hN c.1 c.2.2.2.1.ref (by decide) (by decide) (by omega) (by omega)
  rw [isRf_wd] at hr
  have yb : bb = true := y2.mpr hr
  subst yb
  have eA : x6_gone N (x + 1429) σ = some ((.inl (some (vR (mZ σ))), wN (wI (wI σ (x + 1429) 6 ((q + 4 : Nat) : Int)) (x + 1429) 8 ((pa + 1 : Nat) : Int)) 13 0) : gR) := by
    have zz : mZ (wI (wI σ (x + 1429) 6 ((q + 4 : Nat) : Int)) (x + 1429) 8 ((pa + 1 : Nat) : Int)) = mZ σ := rfl
    have i8 : mI (wI σ (x + 1429) 6 ((q + 4 : Nat) : Int)) (x + 1429) 8 = pa := by rw [mIwI1 (by omega)]; exact s3
    have tt : mT (wN (wI (wI σ (x + 1429) 6 ((q + 4 : Nat) : Int)) (x + 1429) 8 ((pa + 1 : Nat) : Int)) 13 0) (mZ σ) = 13 := by rw [mT_wN, zz, if_pos rfl]
    unfold x6_gone
    rw [if_pos c.1.1, c.1.2.1, s1, w4, if_neg (by omega), c.1.2.2.2.1, y1, Option.bind_some, if_pos (by decide)]
    simp only [gLet, i8]
    rw [inc32 (by omega)]
    unfold x15_init
    rw [zz, if_pos tt]; rfl
  have CFr := (((CF.rf c).wQ (i := 6) (v := ((q + 4 : Nat) : Int)) (by omega)).wQ (i := 8) (v := ((pa + 1 : Nat) : Int)) (by omega)).wN' (t := 13) (n := 0) (Or.inr trivial) (fun z => by cases z) (by decide)
  obtain ⟨r, hr'⟩ : ∃ r, r = wN (wI (wI σ (x + 1429) 6 ((q + 4 : Nat) : Int)) (x + 1429) 8 ((pa + 1 : Nat) : Int)) 13 0 := ⟨_, rfl⟩
  rw [← hr'] at eA CFr
  have lt := c.lt
  have rI : ∀ j, mI r (x + 1429) j = mI (wI (wI σ (x + 1429) 6 ((q + 4 : Nat) : Int)) (x + 1429) 8 ((pa + 1 : Nat) : Int)) (x + 1429) j := fun j => by rw [hr', mI_wN, mZ_wI, mZ_wI, if_neg (by omega)]
  have ri : ∀ j, j ≠ 6 → j ≠ 8 → mI r (x + 1429) j = mI σ (x + 1429) j := fun j j1 j2 => by rw [rI, mIwI1 (by omega), mIwI1 (by omega)]
  have rT : mT r (mZ σ) = 13 := by rw [hr', mT_wN, mZ_wI, mZ_wI, if_pos rfl]
  refine E2.lv eA (Ev.c (leaf_fin (nd := mZ σ) (σ1 := r) (p1 := q + 4) (ar := False) hN S0 (by omega) (by omega) (CFr.mono (by omega)) (by rw [rI, mIwI1 (by omega), mI_wI, if_pos ⟨rfl, rfl⟩, w32_i (by omega) (by omega)]) (ri 7 (by decide) (by decide)) (by rw [rI, mI_wI, if_pos ⟨rfl, rfl⟩, w32_i (by omega) (by omega)]) (ri 11 (by decide) (by decide)) z6 (by rw [z5 46 (by decide), t2.2.2.1]; exact e49) z3 (z5 57 (by decide)) (by rw [z5 41 (by decide)]; exact t5) (by rw [z5 19 (by decide)]; omega)
    ⟨by rw [z5 58 (by decide), ri 14 (by decide) (by decide)]; exact l1, by rw [z5 59 (by decide), ri 14 (by decide) (by decide), ri 15 (by decide) (by decide)]; exact l2, by rw [ri 14 (by decide) (by decide)]; exact l3⟩ (fun w => by rw [← ri 14 (by decide) (by decide)]; exact w) p3 ⟨by rw [rT]; decide, by rw [rT, p1]; decide, by rw [rT, p1]; decide, by rw [rT, p1]; decide⟩ (fun w => by rw [p1] at w; cases w) (fun _ => ⟨mkR, IsP.one (Or.inr (Or.inr (Or.inr (Or.inl ⟨rT, rfl⟩)))) po rfl (show 4 ≤ 6 by decide), R1⟩)) (fun τ3 _ z => Ev.r ?_))
  obtain ⟨q1, o⟩ := z
  exact OutN.ok o
theorem er_gone (hN : 500 ≤ N) (S : S2 x h hi all nv sh M lu0 bA f σ τ q q op pa pi) (h35 : bA q = 35) (hr : isRf bA q = false) : Ev (x6_gone N (x + 1429) σ) (fun r => r.1 = .inr "SheetBranches$Wrong" ∧ mI r.2 (x + 1429) 12 = 1 ∧ mI r.2 (x + 1429) 13 = q ∧ CF x σ r.2 1) := by
  obtain ⟨c, t, ⟨s1, s2, s3, s4⟩, -, -, b1, b2, b3, b4, b5, b6, b7⟩ := S
  have tx := c.1.2.2.2.2.2.2.2
  have h4 : hi ≤ 400 := by have := tx.2.2.1; have := tx.2.2.2; omega
  have qh : q < hi := tx.lt (by omega)
  have w4 : w32 ((q : Int) + 4) = ((q + 4 : Nat) : Int) := by rw [w32_i (by omega) (by omega)]; omega
  have TH := (c_throw (k := 1) (w := (q : Int)) c (by decide) (by omega)).m (Φ' := fun r => r.1 = .inr "SheetBranches$Wrong" ∧ mI r.2 (x + 1429) 12 = 1 ∧ mI r.2 (x + 1429) 13 = q ∧ CF x σ r.2 1) (fun r z => ⟨z.1, z.2.1, by rw [z.2.2.1, if_neg (by omega)], z.2.2.2⟩)
  unfold x6_gone
  rw [c.1.2.1, s1, w4, c.1.2.2.2.1]
  refine Ev.g c.1.1 ?_
  by_cases d : hi < q + 4
  · exact Ev.g (by omega) TH
  · obtain ⟨bb, y1, y2⟩ := c_spells (p := q) (q := q + 4) hN c.1 c.2.2.2.1.ref (by decide) (by decide) (by omega) (by omega)
    have yb : bb = false := by
      cases bb with
      | false => rfl
      | true => rw [isRf_wd.mpr (y2.mp rfl)] at hr; cases hr
    subst yb
    refine Ev.f (by omega) (Ev.e y1 (Ev.f (fun z => z rfl) TH))
end Read12
