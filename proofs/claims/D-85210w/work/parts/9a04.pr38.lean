/-! ===== PHASE 2: reading: steps at a call's end ===== -/
section Read38
variable {N x h hi all nv sh M lu0 b b' p q op pa pi : Nat} {bA : Nat → Int} {f : Int → List Int × List Int} {σ σ' σ'' τ τ' τ'' s r σ0 τ0 σ1 τ2 : gMem} {p0 pa0 nd k kk lu : Nat}
theorem S2.keep (S : S2 x h hi all nv sh M lu0 bA f σ τ p q op pa pi) (e : CF x σ σ' k) (hI : ∀ j, mI σ' (x + 1429) j = mI σ (x + 1429) j) : S2 x h hi all nv sh M lu0 bA f σ' τ p q op pa pi := by
  obtain ⟨c, t, ⟨s1, s2, s3, s4⟩, ⟨t1, t2, t3, t4, t5⟩, ⟨l1, l2, l3⟩, b1, b2, b3, b4, b5, b6, b7⟩ := S
  exact ⟨c.cf e, t, ⟨by rw [hI]; exact s1, by rw [hI]; exact s2, by rw [hI]; exact s3, by rw [hI]; exact s4⟩, ⟨t1, t2, t3, t4, t5⟩, ⟨by rw [hI]; exact l1, by rw [hI, hI]; exact l2, by rw [hI]; exact l3⟩, b1, b2, b3, b4, b5, b6, b7⟩
/-- a new cell of many slots -/
theorem CF.wN2 {t n j : Nat} (c : CF x σ s k) (j0 : 0 < j) (hn : n ≤ 40 * j) : CF x σ (wN s t n) (k + j) := by
  obtain ⟨⟨z1, z2, z3, z4⟩, k2, ⟨i1, i4, i5, i15⟩, kz, ks, lt, np, pl, pm⟩ := c
  have nI : ∀ a j, a < mZ s → mI (wN s t n) a j = mI s a j := fun a j ha => by rw [mI_wN, if_neg (by omega)]
  refine ⟨⟨by rw [mZ_wN]; omega, fun a ha => ?_, fun a ha => ⟨?_, ?_⟩, fun a ha hw j => ⟨?_, ?_, ?_⟩⟩, fun j => ?_, ⟨?_, ?_, ?_, ?_⟩, by rw [mZ_wN]; omega, by rw [mS_wN]; omega, lt, fun q hq ht => ?_, by rw [nI _ _ (by omega)]; exact pl, fun j hj => by rw [mR_wN, if_neg (by omega)]; exact pm j hj⟩
  · rw [mZ_wN] at ha; rw [mT_wN, if_neg (by omega)]; exact z2 a (by omega)
  · rw [mT_wN, if_neg (by omega)]; exact (z3 a ha).1
  · rw [mN_wN, if_neg (by omega)]; exact (z3 a ha).2
  · rw [nI _ _ (by omega)]; exact (z4 a ha hw j).1
  · rw [mL_wN, if_neg (by omega)]; exact (z4 a ha hw j).2.1
  · rw [mR_wN, if_neg (by omega)]; exact (z4 a ha hw j).2.2
  · rw [mR_wN, if_neg (by omega)]; exact k2 j
  · rw [nI _ _ (by omega)]; exact i1
  · rw [nI _ _ (by omega)]; exact i4
  · rw [nI _ _ (by omega)]; exact i5
  · rw [nI _ _ (by omega)]; exact i15
  · by_cases e : q = mZ s
    · rw [mR_wN, if_pos e]; omega
    · rw [mT_wN, if_neg e] at ht
      rw [mR_wN, if_neg e]; exact np q hq ht
/-- a late fault -/
theorem S2.lt {w : Nat} (S : S2 x h hi all nv sh M lu0 bA f σ τ p q op pa pi) (hw : w < hi) (h4 : hi ≤ 400) : ∃ s' τ', x6_late (x + 1429) 4 (w : Int) σ = some s' ∧ tw_later h 4 (w : Int) τ = some τ' ∧ S2 x h hi all nv sh M lu0 bA f s' τ' p q op pa pi ∧ CF x σ s' 0 ∧ TF (lu0 + hi) h τ τ' (M + pa) ∧ mI s' (x + 1429) 14 ≠ 0 ∧ (∀ a j, a ≠ h → mI τ' a j = mI τ a j) ∧ Ex (fun a _ => a = x + 1429) σ s' := by
  obtain ⟨c, t, ⟨s1, s2, s3, s4⟩, ⟨t1, t2, t3, t4, t5⟩, ⟨l1, l2, l3⟩, b1, b2, b3, b4, b5, b6, b7⟩ := S
  obtain ⟨s', e1, X, i1, i2⟩ := c_late (k := 4) (w := (w : Int)) c.1.1 (by decide) (by omega)
  obtain ⟨τ', e2, Y, j1, j2⟩ := t_later (τ := τ) (h := h) (k := 4) (w := (w : Int)) (lp := mI σ (x + 1429) 15) (by rw [l1]; exact l2) (by decide) (by omega)
  rw [l1] at j1 j2
  have nz : 0 < (ltF (mI σ (x + 1429) 14) (mI σ (x + 1429) 15) 4 (w : Int)).1 := by
    unfold ltF
    split
    · exact (by decide : (0 : Int) < 4)
    · rename_i hh
      have : mI σ (x + 1429) 14 ≠ 0 := fun z => hh (Or.inl z)
      show 0 < mI σ (x + 1429) 14
      omega
  have cf : CF x σ s' 0 := CF.ex X c.2.2.2.2.1 c.lt (fun a j z => ⟨z.1, by omega⟩) (by rw [i2, c.1.2.1]; exact lt15 (by omega))
  have tf : TF (lu0 + hi) h τ τ' (M + pa) := TF.ex Y b5 (fun a j y => Or.inl ⟨y.1, by omega⟩)
  have fx : ∀ k, k ≠ 14 → k ≠ 15 → mI s' (x + 1429) k = mI σ (x + 1429) k := fun k h1 h2 => X.rI (fun y => by omega)
  have ft : ∀ k, k ≠ 58 → k ≠ 59 → mI τ' h k = mI τ h k := fun k h1 h2 => Y.rI (fun y => by omega)
  refine ⟨s', τ', e1, e2, ⟨c.cf cf, t.tf tf, ⟨by rw [fx 6 (by decide) (by decide)]; exact s1, by rw [fx 7 (by decide) (by decide)]; exact s2, by rw [fx 8 (by decide) (by decide)]; exact s3, by rw [fx 11 (by decide) (by decide)]; exact s4⟩, ⟨t1, t2.ex Y (fun k k1 k2 y => by omega), by rw [ft 57 (by decide) (by decide)]; exact t3, by rw [ft 56 (by decide) (by decide)]; exact t4, by rw [ft 41 (by decide) (by decide)]; exact t5⟩, ⟨by rw [i1, j1], fun _ => by rw [i2, j2], by rw [i1]; omega⟩, b1, b2, b3, b4, by rw [ft 19 (by decide) (by decide)]; exact b5, by rw [ft 19 (by decide) (by decide)]; exact b6, b7⟩, cf, tf, by rw [i1]; omega, fun a j ha => Y.rI (fun y => ha y.1), X.mono (fun a j z => z.1)⟩
/-- a bracket is shut, or that is a fault -/
theorem S2.shut (hN : 500 ≤ N) (h20 : op + 1 ≤ 20) (S : S2 x h hi all nv sh M lu0 bA f σ τ q q (op + 1) pa pi) :
    (∃ s r2, x6_expect N (x + 1429) 41 σ = some (.inr "SheetBranches$Wrong", s) ∧ tw_readShut N h τ = some r2 ∧ ErN x h hi M lu0 σ τ q pa s r2) ∨
    (∃ s τ3 q1, q < hi ∧ x6_expect N (x + 1429) 41 σ = some (.inl none, wI s (x + 1429) 6 ((q + 1 : Nat) : Int)) ∧ mI s (x + 1429) 7 = ((op + 1 : Nat) : Int) ∧ tw_readShut N h τ = some τ3 ∧ S2 x h hi all nv sh M lu0 bA f (wI (wI s (x + 1429) 6 ((q + 1 : Nat) : Int)) (x + 1429) 7 (op : Int)) τ3 (q + 1) q1 op pa pi ∧ CF x σ (wI (wI s (x + 1429) 6 ((q + 1 : Nat) : Int)) (x + 1429) 7 (op : Int)) 0 ∧ TF (lu0 + hi) h τ τ3 (M + pa) ∧ mI (wI (wI s (x + 1429) 6 ((q + 1 : Nat) : Int)) (x + 1429) 7 (op : Int)) (x + 1429) 14 = mI σ (x + 1429) 14) := by
  have S00 := S
  obtain ⟨r, er, e1, S0, cf0, fk0, pq0, qh0⟩ := S.pk hN
  have c := S00.1
  obtain ⟨c', t, ⟨s1, s2, s3, s4⟩, ⟨t1, t2, t3, t4, t5⟩, ⟨l1, l2, l3⟩, b1, b2, b3, b4, b5, b6, b7⟩ := S0
  have S0 : S2 x h hi all nv sh M lu0 bA f r.2 τ q q (op + 1) pa pi := ⟨c', t, ⟨s1, s2, s3, s4⟩, ⟨t1, t2, t3, t4, t5⟩, ⟨l1, l2, l3⟩, b1, b2, b3, b4, b5, b6, b7⟩
  have tx := c'.1.2.2.2.2.2.2.2
  have h4 : hi ≤ 400 := by have := tx.2.2.1; have := tx.2.2.2; omega
  unfold tw_readShut
  rw [if_pos (by omega), t2.1]
  by_cases e : bA q = 41
  · right
    have k7 := tk678.2.1.mpr e
    have qh : q < hi := tx.lt (fun z => by rw [e] at z; cases z)
    have ee : x6_expect N (x + 1429) 41 σ = some (.inl none, wI r.2 (x + 1429) 6 ((q + 1 : Nat) : Int)) := by
      unfold x6_expect
      rw [if_pos c.1.1, er, Option.bind_some, e1, if_pos e, s1, inc32 (by omega)]; rfl
    have w7 : w32 (((op + 1 : Nat) : Int) - 1) = (op : Int) := by rw [w32_i (by omega) (by omega)]; omega
    obtain ⟨S1, cf1, tf1⟩ := S0.opn (op' := op) (by omega)
    have e49 : mI (wI τ h 57 (op : Int)) h 49 = ((q + 1 : Nat) : Int) := by rw [mIwI1 (by omega)]; exact t2.2.2.2.2.1 (Or.inr (Or.inl k7))
    obtain ⟨τ3, z0, q1, z1, z2, z3, z4⟩ := S1.adv hN (Nat.le_succ q) qh e49
    refine ⟨r.2, τ3, q1, qh, ee, s2, ?_, ?_, ?_, tf1.tr z2 (Nat.le_refl _), ?_⟩
    · rw [if_pos k7, t3, w7]
      show (tw_next N h (wI τ h 57 (op : Int))).bind _ = _
      rw [z0]; rfl
    · rw [wI_comm (by omega)]; exact z1
    · rw [wI_comm (by omega)]; exact ((cf0.tr cf1).tr z4).mono (by omega)
    · rw [mIwI1 (by omega), mIwI1 (by omega)]; exact fk0 14 (by decide)
  · left
    have k7 : tkK bA q ≠ 7 := fun z => e (tk678.2.1.mp z)
    obtain ⟨a, r2, ea, eb, z1, z2⟩ := S0.wrong (k := 1) (kt := some) (p0 := q) (pa0 := pa) (cf0.mono (by omega)) (TF.rf b5) (by omega) (by omega) (by decide) (fun r _ => rfl)
    have ee : x6_expect N (x + 1429) 41 σ = some a := by
      unfold x6_expect
      rw [if_pos c.1.1, er, Option.bind_some, e1, if_neg e, s1]; exact ea
    obtain ⟨a1', a2'⟩ := a
    have z1' : a1' = .inr "SheetBranches$Wrong" := z1
    subst z1'
    refine ⟨a2', r2, ee, ?_, z2⟩
    rw [if_neg k7]; exact eb
/-- the twin makes a part, the class counts it -/
theorem S2.prt {K : Nat} {ms : List Nat} (hN : 500 ≤ N) (S : S2 x h hi all nv sh M lu0 bA f σ τ p q op pa pi) (hpa : pa < p) (hK : K ≤ 100) (hm : ms.length ≤ 400) (sc : SpC τ h (M + pa) ms) :
    Ev (tw_part N h (K : Int) (ms.length : Nat) τ) (fun r => S2 x h hi all nv sh M lu0 bA f (wI σ (x + 1429) 8 ((pa + 1 : Nat) : Int)) r.2 p q op (pa + 1) pi ∧ CF x σ (wI σ (x + 1429) 8 ((pa + 1 : Nat) : Int)) 0 ∧ TF (lu0 + hi) h τ r.2 (M + pa) ∧ PAt r.2 h (M + pa) K (ms.length : Nat) ((1 + ms.sum : Nat) : Int) ∧ mI r.2 h 41 = 0) := by
  obtain ⟨c, t, ⟨s1, s2, s3, s4⟩, ⟨t1, t2, t3, t4, t5⟩, ⟨l1, l2, l3⟩, b1, b2, b3, b4, b5, b6, b7⟩ := S
  have tx := c.1.2.2.2.2.2.2.2
  have h4 : hi ≤ 400 := by have := tx.2.2.1; have := tx.2.2.2; omega
  refine (t_part (k := K) (ms := ms) hN t.2.2.2.2.1 t.2.2.2.2.2 t4 (by omega) t5 hK hm sc).m (fun r z => ?_)
  obtain ⟨z1, z2, z3, z4⟩ := z
  have tf : TF (lu0 + hi) h τ r.2 (M + pa) := TF.ex z2 b5 (fun a j y => by
    rcases y with y | ⟨o, o1, o2, o3, o4⟩
    · exact Or.inl ⟨y.1, by omega⟩
    · exact Or.inr ⟨o, o1, o2, o3, by omega⟩)
  have nP : ∀ j, j ≠ 56 → mI r.2 h j = mI τ h j := fun j hj => z2.rI (fun y => by rcases y with y | ⟨o, o1, o2, o3, o4⟩ <;> omega)
  have e : Ex (Rq x 8) σ (wI σ (x + 1429) 8 ((pa + 1 : Nat) : Int)) := Ex.rf.I ⟨rfl, rfl⟩
  have cf := Rq.cf c e (by omega)
  have i8 : mI (wI σ (x + 1429) 8 ((pa + 1 : Nat) : Int)) (x + 1429) 8 = ((pa + 1 : Nat) : Int) := by rw [mIwI2 ⟨rfl, rfl⟩, w32_i (by omega) (by omega)]
  have fk : ∀ k, k ≠ 8 → mI (wI σ (x + 1429) 8 ((pa + 1 : Nat) : Int)) (x + 1429) k = mI σ (x + 1429) k := fun k hk => e.rI (fun y => hk y.2)
  exact ⟨⟨c.cf cf, t.tf tf, ⟨by rw [fk 6 (by decide)]; exact s1, by rw [fk 7 (by decide)]; exact s2, i8, by rw [fk 11 (by decide)]; exact s4⟩, ⟨t1, t2.ex z2 (fun k k1 k2 y => by rcases y with y | ⟨o, o1, o2, o3, o4⟩ <;> omega), by rw [nP 57 (by decide)]; exact t3, z3, by rw [nP 41 (by decide)]; exact t5⟩, ⟨by rw [nP 58 (by decide), fk 14 (by decide)]; exact l1, by rw [nP 59 (by decide), fk 14 (by decide), fk 15 (by decide)]; exact l2, by rw [fk 14 (by decide)]; exact l3⟩, b1, b2, by omega, b4, by rw [nP 19 (by decide)]; exact b5, by rw [nP 19 (by decide)]; exact b6, b7⟩, cf, tf, z4, by rw [nP 41 (by decide)]; exact t5⟩
end Read38
