/-! ===== PHASE 2: reading: words: letters, truths ===== -/
section Read21
variable {N x h hi all nv sh M lu0 b b' p q op pa pi : Nat} {bA : Nat → Int} {f : Int → List Int × List Int} {σ σ' σ'' τ τ' τ'' s r σ0 τ0 σ1 τ2 : gMem} {p0 pa0 nd k lu : Nat} {W : Nat → gMem → Option gR} {Wt : gMem → Option gMem}
theorem c_word_l {e : Nat} {v1 : Int} {K : gMem → Option gR} (c : CSt σ x bA hi all) (h4 : e ≤ 401) : ∀ (m p f : Nat) (s : gMem), p + m = e → m < f → Fst isL bA p e → Ex (Rq x 6) σ s → mI s (x + 1429) 6 = p → ∃ s', Ex (Rq x 6) σ s' ∧ mI s' (x + 1429) 6 = e ∧ x6_word_l5 N W (x + 1429) v1 K f s = K s' := by
  intro m
  induction m with
  | zero =>
    intro p f s h1 h2 F X g
    obtain ⟨f, rfl⟩ : ∃ j, f = j + 1 := ⟨f - 1, by omega⟩
    obtain rfl : p = e := by omega
    have cs : CSt s x bA hi all := c.ex X (fun i hi z => by unfold Rq at z; omega) (fun i z => by unfold Rq at z; omega)
    refine ⟨s, X, g, ?_⟩
    unfold x6_word_l5
    rw [g, if_pos cs.1, c_here cs p, Option.bind_some, c_isLetter, F.2.2, Option.bind_some]
    rfl
  | succ m ih =>
    intro p f s h1 h2 F X g
    obtain ⟨f, rfl⟩ : ∃ j, f = j + 1 := ⟨f - 1, by omega⟩
    have cs : CSt s x bA hi all := c.ex X (fun i hi z => by unfold Rq at z; omega) (fun i z => by unfold Rq at z; omega)
    obtain ⟨s', a1, a2, a3⟩ := ih (p + 1) f (wI s (x + 1429) 6 ((p + 1 : Nat) : Int)) (by omega) (by omega) ⟨by omega, fun k k1 k2 => F.2.1 k (by omega) k2, F.2.2⟩ (X.I ⟨rfl, rfl⟩) (by rw [mI_wI, if_pos ⟨rfl, rfl⟩, w32_i (by omega) (by omega)])
    refine ⟨s', a1, a2, ?_⟩
    unfold x6_word_l5
    rw [g, inc32 (by omega), if_pos cs.1, c_here cs p, Option.bind_some, c_isLetter, F.2.1 p (Nat.le_refl _) (by omega), Option.bind_some, if_neg (by decide)]
    exact a3
theorem rd_truth {e : Nat} {s12 : gMem} {bb : Bool} (hN : 500 ≤ N) (S : S2 x h hi all nv sh M lu0 bA f σ τ q q op pa pi) (X : Ex (Rq x 6) σ s12) (g6 : mI s12 (x + 1429) 6 = e) (qe : q < e) (eh : e ≤ hi) (e46 : mI τ h 46 = e) (hb : bA q = if bb then 84 else 70) :
    E2 (gLet (wI s12 (x + 1429) 8 (w32 ((mI s12 (x + 1429) 8) + 1))) (fun s32 => gLet (wN s32 16 1) (fun s35 => if mT s35 (mR s35 (x + 1429) 3) = 102 then if 0 ≤ (q : Int) ∧ (q : Int) < (mN s35 (mR s35 (x + 1429) 3) : Int) then if mI s35 (mR s35 (x + 1429) 3) (q : Int).toNat ≠ 84 then (x18_init (mZ s32) 0 s35).bind (fun x39 => some ((.inl (some (vR (mZ s32))), x39) : gR)) else (x18_init (mZ s32) 1 s35).bind (fun x41 => some (.inl (some (vR (mZ s32))), x41)) else none else none)))
      (tw_readWord_j42 N Wt h (if bb then 1 else 0) τ) (Out2 x h hi all nv sh M lu0 bA f σ τ q op pa pi) := by
  have S0 := S
  obtain ⟨c, t, ⟨s1, s2, s3, s4⟩, ⟨t1, t2, t3, t4, t5⟩, ⟨l1, l2, l3⟩, b1, b2, b3, b4, b5, b6, b7⟩ := S
  have tx := c.1.2.2.2.2.2.2.2
  have h4 : hi ≤ 400 := by have := tx.2.2.1; have := tx.2.2.2; omega
  have al : hi ≤ all := tx.2.2.1
  obtain ⟨v, hv⟩ : ∃ v : Int, v = if bb then 1 else 0 := ⟨_, rfl⟩
  have v01 : v = 0 ∨ v = 1 := by
    rw [hv]
    cases bb with
    | false => exact Or.inl rfl
    | true => exact Or.inr rfl
  -- the component
  have cf12 := Rq.cf c X (by omega)
  have c12 := c.cf cf12
  have g8 : mI s12 (x + 1429) 8 = pa := by rw [X.rI (fun y => by unfold Rq at y; omega)]; exact s3
  rw [g8, inc32 (by omega)]
  have zz : mZ (wI s12 (x + 1429) 8 ((pa + 1 : Nat) : Int)) = mZ s12 := rfl
  have lt12 := c12.lt
  have CF35 := ((CF.rf c12).wQ (i := 8) (v := ((pa + 1 : Nat) : Int)) (by omega)).wN' (t := 16) (n := 1) (Or.inr trivial) (fun z => by cases z) (by decide)
  have I35 : ∀ j, mI (wN (wI s12 (x + 1429) 8 ((pa + 1 : Nat) : Int)) 16 1) (x + 1429) j = mI (wI s12 (x + 1429) 8 ((pa + 1 : Nat) : Int)) (x + 1429) j := fun j => by rw [mI_wN, zz, if_neg (by omega)]
  have T35 : mT (wN (wI s12 (x + 1429) 8 ((pa + 1 : Nat) : Int)) 16 1) (mZ s12) = 16 := by rw [mT_wN, zz, if_pos rfl]
  have i8 : mI (wI s12 (x + 1429) 8 ((pa + 1 : Nat) : Int)) (x + 1429) 8 = ((pa + 1 : Nat) : Int) := by rw [mIwI2 ⟨rfl, rfl⟩, w32_i (by omega) (by omega)]
  have ij : ∀ j, j ≠ 8 → mI (wI s12 (x + 1429) 8 ((pa + 1 : Nat) : Int)) (x + 1429) j = mI s12 (x + 1429) j := fun j hj => mIwI1 (by omega)
  refine E2.ll (E2.ll ?_)
  rw [zz]
  generalize wN (wI s12 (x + 1429) 8 ((pa + 1 : Nat) : Int)) 16 1 = s35 at CF35 I35 T35 ⊢
  have c35 := c12.cf CF35
  have by35 : mI s35 (x + 1) q = bA q := by
    rw [c35.1.2.2.2.2.2.2.1 q (by omega)]
    unfold sby; rw [if_pos (by rw [hb]; cases bb <;> decide)]
  have eA : (if mI s35 (x + 1) q ≠ 84 then (x18_init (mZ s12) 0 s35).bind (fun x39 => some ((.inl (some (vR (mZ s12))), x39) : gR)) else (x18_init (mZ s12) 1 s35).bind (fun x41 => some (.inl (some (vR (mZ s12))), x41))) = some (.inl (some (vR (mZ s12))), wI s35 (mZ s12) 0 v) := by
    rw [by35, hb, hv]
    cases bb with
    | false =>
      rw [if_pos (by decide)]
      unfold x18_init
      rw [if_pos T35, if_pos (by decide)]; rfl
    | true =>
      rw [if_neg (by decide)]
      unfold x18_init
      rw [if_pos T35, if_pos (by decide)]; rfl
  rw [c35.1.2.2.2.1]
  refine E2.lg c35.1.2.2.2.2.1 (E2.lg (by rw [c35.1.2.2.2.2.2.1]; omega) ?_)
  rw [tn]
  have CF1 : CF x s12 (wI s35 (mZ s12) 0 v) 1 := CF35.wI' (Nat.le_refl _)
  have J1 : ∀ j, mI (wI s35 (mZ s12) 0 v) (x + 1429) j = mI (wI s12 (x + 1429) 8 ((pa + 1 : Nat) : Int)) (x + 1429) j := fun j => by rw [mIwI1 (by omega)]; exact I35 j
  have T1 : mT (wI s35 (mZ s12) 0 v) (mZ s12) = 16 := by rw [mT_wI]; exact T35
  have V1 : mI (wI s35 (mZ s12) 0 v) (mZ s12) 0 = v := by rw [mIwI2 ⟨rfl, rfl⟩, w32_i (by omega) (by omega)]
  generalize wI s35 (mZ s12) 0 v = σ1 at eA CF1 J1 T1 V1
  have CFr : CF x σ σ1 1 := (cf12.tr CF1).mono (by omega)
  have ri : ∀ j, j ≠ 6 → j ≠ 8 → mI σ1 (x + 1429) j = mI σ (x + 1429) j := fun j j1 j2 => by rw [J1, ij j j2]; exact X.rI (fun y => j1 y.2)
  -- the twin
  unfold tw_readWord_j42
  refine E2.rc (tw_new (k := 3) hN S0 (by decide)) (fun x6 z => ?_)
  obtain ⟨z1, z2, z3, z4, z5, z6, z7⟩ := z
  have m60 := t.2.2.2.2.2
  have eT : (if (if bb then (1 : Int) else 0) = 0 then if 0 ≤ (x6.1) ∧ (x6.1) < ((60420 : Nat) : Int) then gLet (wL (x6.2) (h + 17) (x6.1).toNat (((0 : Fin 2) : Nat) : Int)) (fun s10 => (tw_next N h s10).bind (fun x13 => some x13)) else none else if 0 ≤ (x6.1) ∧ (x6.1) < ((60420 : Nat) : Int) then gLet (wL (x6.2) (h + 17) (x6.1).toNat (((1 : Fin 2) : Nat) : Int)) (fun s16 => (tw_next N h s16).bind (fun x19 => some x19)) else none) = tw_next N h (wL x6.2 (h + 17) (M + pa) v) := by
    rw [z1, tn, hv]
    cases bb with
    | false => rw [if_pos (by decide), if_pos (by omega)]; exact bnd_id
    | true => rw [if_neg (by decide), if_pos (by omega)]; exact bnd_id
  rw [eT]
  have XL : Ex (fun a j => a = h + 17 ∧ j = M + pa) x6.2 (wL x6.2 (h + 17) (M + pa) v) := Ex.rf.L ⟨rfl, rfl⟩
  have V2 : mL (wL x6.2 (h + 17) (M + pa) v) (h + 17) (M + pa) = v := by rw [mL_wL, if_pos ⟨rfl, rfl⟩, w64_i (by omega) (by omega)]
  generalize wL x6.2 (h + 17) (M + pa) v = τ2 at XL V2 ⊢
  have tf2 : TF (lu0 + hi) h τ τ2 (M + pa) := z6.tr (TF.ex (b := M + pa) XL (by rw [z5 19 (by decide)]; exact b5) (fun a j y => Or.inr ⟨17, by omega, by omega, y.1, by omega⟩)) (Nat.le_refl _)
  have nX : ∀ j, j ≠ 56 → mI τ2 h j = mI τ h j := fun j hj => by rw [XL.rI (by omega)]; exact z5 j hj
  have aI : ∀ o, o ≠ 17 → mI τ2 (h + o) (M + pa) = mI x6.2 (h + o) (M + pa) := fun o ho => XL.rI (by omega)
  obtain ⟨p1, p2, p3, p4, p5, p6, p7, p8, p9, p10, p11, p12⟩ := z4
  have k3 : mI τ2 (h + 14) (M + pa) = 3 := by rw [aI 14 (by decide)]; exact p1
  have L : LabT τ2 h (M + pa) (mkB bb) := ⟨by omega, k3, by rw [aI 15 (by decide)]; exact p2, by rw [V2, hv]; rfl, ⟨0, by rw [aI 18 (by decide)]; exact p5, Nat.zero_le _, fun i hi => absurd hi (Nat.not_lt_zero _)⟩, by rw [aI 19 (by decide)]; exact p6, by rw [aI 20 (by decide)]; exact p7, by rw [aI 21 (by decide)]; exact p8, by rw [aI 22 (by decide)]; exact p9, by rw [aI 23 (by decide)]; exact p10, Or.inl (by rw [aI 24 (by decide)]; exact p11), by rw [aI 25 (by decide)]; exact p12⟩
  have po : PtOk (mkB bb) := Or.inr (Or.inr (Or.inl ⟨_, rfl⟩))
  have R1 : RwT τ2 h (M + pa) nv [mkB bb] := RwT.one L ⟨0, by rw [aI 18 (by decide)]; exact p5, by have := nX 19 (by decide); show ((0 + 0 : Nat) : Int) ≤ _; omega⟩ po (by rw [aI 24 (by decide)]; exact p11) (show 0 < 16 by decide) (show (-1 : Int) < nv by omega) (by rw [aI 16 (by decide)]; exact p3) rfl (show 3 ≤ 6 by decide)
  have LC : LabC σ1 (mZ s12) (mkB bb) := by
    refine Or.inr (Or.inr (Or.inl ⟨T1, ?_, ?_⟩))
    · rw [V1, hv]
      cases bb <;> rfl
    · rw [V1, hv]
      cases bb
      · exact Or.inl rfl
      · exact Or.inr rfl
  refine E2.lv eA (Ev.m (leaf_fin (nd := mZ s12) (σ1 := σ1) (p1 := e) (ar := False) hN S0 qe eh (CFr.mono (by omega)) (by rw [J1, ij 6 (by decide)]; exact g6) (ri 7 (by decide) (by decide)) (by rw [J1]; exact i8) (ri 11 (by decide) (by decide)) tf2 (by rw [nX 46 (by decide)]; exact e46) (by rw [XL.rI (by omega)]; exact z3) (nX 57 (by decide)) (by rw [nX 41 (by decide)]; exact t5) (by rw [nX 19 (by decide)]; omega)
    ⟨by rw [nX 58 (by decide), ri 14 (by decide) (by decide)]; exact l1, by rw [nX 59 (by decide), ri 14 (by decide) (by decide), ri 15 (by decide) (by decide)]; exact l2, by rw [ri 14 (by decide) (by decide)]; exact l3⟩ (fun w => by rw [← ri 14 (by decide) (by decide)]; exact w) (by rw [aI 16 (by decide)]; exact p3) ⟨by rw [T1]; decide, by rw [T1, k3]; decide, by rw [T1, k3]; decide, by rw [T1, k3]; decide⟩ (fun w => by rw [k3] at w; cases w) (fun _ => ⟨mkB bb, IsP.one LC po rfl (show 3 ≤ 6 by decide), R1⟩)) (fun τ3 z => ?_))
  obtain ⟨q1, o⟩ := z
  exact OutN.ok o
end Read21
