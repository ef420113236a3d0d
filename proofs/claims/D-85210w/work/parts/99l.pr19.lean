/-! ===== PHASE 2: reading: what stands in brackets ===== -/
section Read19
variable {N x h hi all nv sh M lu0 b b' p q op pa pi : Nat} {bA : Nat → Int} {f : Int → List Int × List Int} {σ σ' σ'' τ τ' τ'' s r σ0 τ0 σ1 τ2 : gMem} {p0 pa0 nd k lu : Nat} {W : Nat → gMem → Option gR} {Wt : gMem → Option gMem}
theorem bnd_id {α : Type} {y : Option α} : y.bind (fun z => some z) = y := by cases y <;> rfl
theorem rd_shut {ar : Prop} (hN : 500 ≤ N) (h20 : op + 1 ≤ 20) (o : OkN x h hi all nv sh M lu0 bA f σ0 τ0 p0 (op + 1) pa0 pi False nd p q pa σ τ) : E2 ((x6_expect N (x + 1429) 41 σ).bind (fun p => gThrV p (fun s39 => gLet (wI s39 (x + 1429) 7 (w32 ((mI s39 (x + 1429) 7) - 1))) (fun s41 => some ((.inl (some (vR nd)), s41) : gR))))) (tw_readShut N h τ) (OutN x h hi all nv sh M lu0 bA f σ0 τ0 p0 op pa0 pi ar) := by
  obtain ⟨r, er, e1, o'⟩ := o.pk hN
  have c := o.1.1
  have S := o'.1
  obtain ⟨-, a1, a2, a3, a4, a5, a6, a7, a8⟩ := o'
  have S0 := S
  obtain ⟨c', t, ⟨s1, s2, s3, s4⟩, ⟨t1, t2, t3, t4, t5⟩, ⟨l1, l2, l3⟩, b1, b2, b3, b4, b5, b6, b7⟩ := S
  have tx := c'.1.2.2.2.2.2.2.2
  have h4 : hi ≤ 400 := by have := tx.2.2.1; have := tx.2.2.2; omega
  unfold tw_readShut
  refine E2.rg (by omega) ?_
  rw [t2.1]
  by_cases e : bA q = 41
  · have k7 := tk678.2.1.mpr e
    have qh : q < hi := tx.lt (fun z => by rw [e] at z; cases z)
    have ee : x6_expect N (x + 1429) 41 σ = some (.inl none, wI r.2 (x + 1429) 6 ((q + 1 : Nat) : Int)) := by
      unfold x6_expect
      rw [if_pos c.1.1, er, Option.bind_some, e1, if_pos e, s1, inc32 (by omega)]; rfl
    have w7 : w32 (((op + 1 : Nat) : Int) - 1) = (op : Int) := by rw [w32_i (by omega) (by omega)]; omega
    refine E2.rg k7 (E2.le ee ?_)
    rw [thrV, t3, w7, mIwI1 (by omega), s2, w7, wI_comm (by omega)]
    refine E2.ll (E2.rl (E2.lv rfl ?_))
    obtain ⟨S1, cf1, tf1⟩ := S0.opn (op' := op) (by omega)
    have e49 : mI (wI τ h 57 (op : Int)) h 49 = ((q + 1 : Nat) : Int) := by rw [mIwI1 (by omega)]; exact t2.2.2.2.2.1 (Or.inr (Or.inl k7))
    rw [bnd_id]
    refine (S1.adv hN (Nat.le_succ q) qh e49).m (fun τ3 z => ?_)
    obtain ⟨q1, z1, z2, z3, z4⟩ := z
    have tf3 := tf1.tr z2 (Nat.le_refl _)
    have cf3 := cf1.tr z4
    have l14 : mI (wI (wI r.2 (x + 1429) 7 (op : Int)) (x + 1429) 6 ((q + 1 : Nat) : Int)) (x + 1429) 14 = mI r.2 (x + 1429) 14 := by rw [mIwI1 (by omega), mIwI1 (by omega)]
    refine OutN.ok (q := q1) ⟨z1, by omega, a2, by omega, (a4.tr cf3).mono (by omega), a5.tr tf3 (by omega), a6.mv c' cf3 tf3 (by omega) (fun y => by rw [← l14]; exact y), fun y => a7 (by rw [← l14]; exact y), fun y => ?_⟩
    rw [z3 _ _ ⟨14, by omega, by omega, rfl⟩, mIwI1 (by omega)] at y
    exact (a8 y).elim
  · have k7 : tkK bA q ≠ 7 := fun z => e (tk678.2.1.mp z)
    obtain ⟨a, r2, ea, eb, z1, z2⟩ := S0.wrong (k := 1) (kt := some) (p0 := p0) (pa0 := pa0) a4 a5 (by omega) (by omega) (by decide) (fun r _ => rfl)
    have ee : x6_expect N (x + 1429) 41 σ = some a := by
      unfold x6_expect
      rw [if_pos c.1.1, er, Option.bind_some, e1, if_neg e, s1]; exact ea
    obtain ⟨a1', a2'⟩ := a
    have z1' : a1' = .inr "SheetBranches$Wrong" := z1
    subst z1'
    refine E2.rf k7 (E2.le ee ?_)
    rw [thrVE]
    exact E2.lv rfl ⟨r2, eb, OutN.er z2⟩
/-- as it is seen from further ahead -/
theorem OkN.re {ar : Prop} {p1 pa' : Nat} (o : OkN x h hi all nv sh M lu0 bA f σ' τ' p1 op pa0 pi ar nd p q pa σ τ) (hp : p0 ≤ p1) (e : CF x σ0 σ' (p1 - p0)) (t : TF (lu0 + hi) h τ0 τ' (M + pa0)) (l : mI σ' (x + 1429) 14 = mI σ0 (x + 1429) 14) : OkN x h hi all nv sh M lu0 bA f σ0 τ0 p0 op pa0 pi ar nd p q pa σ τ := by
  obtain ⟨S, a1, a2, a3, a4, a5, a6, a7, a8⟩ := o
  exact ⟨S, by omega, a2, by omega, (e.tr a4).mono (by omega), t.tr a5 (Nat.le_refl _), a6, fun y => by rw [← l]; exact a7 y, a8⟩
theorem rd_paren (hN : 500 ≤ N) (S : S2 x h hi all nv sh M lu0 bA f σ τ q q op pa pi) (h40 : bA q = 40) (hT : op + 1 ≤ 20 → RdG x h hi all nv sh M lu0 bA f (op + 1) (x6_test N W (x + 1429)) (tw_readTest N Wt h)) : E2 ((x6_opens (x + 1429) σ).bind (fun p => gThrV p (fun s33 => (x6_test N W (x + 1429) s33).bind (fun p => gThrR p (fun x34 s36 => (x6_expect N (x + 1429) 41 s36).bind (fun p => gThrV p (fun s39 => gLet (wI s39 (x + 1429) 7 (w32 ((mI s39 (x + 1429) 7) - 1))) (fun s41 => some (.inl (some (vR x34)), s41))))))))) ((tw_opens h τ).bind (fun x15 => if x15.1 = 0 then some (x15.2) else (tw_next N h (x15.2)).bind (fun x19 => (tw_readTest N Wt h x19).bind (fun x22 => (tw_readShut N h x22).bind (fun x25 => some x25))))) (Out2 x h hi all nv sh M lu0 bA f σ τ q op pa pi) := by
  have S0 := S
  obtain ⟨c, t, ⟨s1, s2, s3, s4⟩, ⟨t1, t2, t3, t4, t5⟩, ⟨l1, l2, l3⟩, b1, b2, b3, b4, b5, b6, b7⟩ := S
  have tx := c.1.2.2.2.2.2.2.2
  have h4 : hi ≤ 400 := by have := tx.2.2.1; have := tx.2.2.2; omega
  have qh : q < hi := tx.lt (fun z => by rw [h40] at z; cases z)
  have k6 := tk678.1.mpr h40
  by_cases e : op = 20
  · obtain ⟨a, r2, ea, eb, z1, z2⟩ := S0.wrong (k := 2) (kt := some) (p0 := q) (pa0 := pa) ((CF.rf c).mono (by omega)) (TF.rf b5) (Nat.le_refl _) (Nat.le_refl _) (by decide) (fun r _ => rfl)
    have ee : x6_opens (x + 1429) σ = some a := by
      unfold x6_opens
      rw [if_pos c.1.1, s2, if_neg (by omega), s1]; exact ea
    have eb' : tw_fail h 2 (mI τ h 48) τ = some r2 := by rw [← eb]; exact bnd_id.symm
    have et : tw_opens h τ = some (0, r2) := by
      unfold tw_opens
      rw [t3, if_neg (by omega), eb', Option.bind_some]
    obtain ⟨a1', a2'⟩ := a
    have z1' : a1' = .inr "SheetBranches$Wrong" := z1
    subst z1'
    refine E2.le ee (E2.re et ?_)
    rw [thrVE]
    exact E2.rg rfl (E2.r (OutN.er z2))
  · have ee : x6_opens (x + 1429) σ = some (.inl none, wI (wI σ (x + 1429) 7 ((op + 1 : Nat) : Int)) (x + 1429) 6 ((q + 1 : Nat) : Int)) := by
      unfold x6_opens
      simp only [gLet]
      rw [if_pos c.1.1, s2, if_pos (by omega), inc32 (by omega), mIwI1 (by omega), s1, inc32 (by omega)]
    have et : tw_opens h τ = some (1, wI τ h 57 ((op + 1 : Nat) : Int)) := by
      unfold tw_opens
      rw [t3, if_pos (by omega), inc32 (by omega)]; rfl
    obtain ⟨S1, cf1, tf1⟩ := S0.opn (op' := op + 1) (by omega)
    have e49 : mI (wI τ h 57 ((op + 1 : Nat) : Int)) h 49 = ((q + 1 : Nat) : Int) := by rw [mIwI1 (by omega)]; exact t2.2.2.2.2.1 (Or.inl k6)
    refine E2.le ee (E2.re et ?_)
    rw [thrV]
    refine E2.rf (by decide : ¬ (1 : Int) = 0) (E2.rc (S1.adv hN (Nat.le_succ q) qh e49) (fun τ3 z => ?_))
    obtain ⟨q1, z1, z2, z3, z4⟩ := z
    have tf3 := tf1.tr z2 (Nat.le_refl _)
    have cf3 := cf1.tr z4
    have l14 : mI (wI (wI σ (x + 1429) 7 ((op + 1 : Nat) : Int)) (x + 1429) 6 ((q + 1 : Nat) : Int)) (x + 1429) 14 = mI σ (x + 1429) 14 := by rw [mIwI1 (by omega), mIwI1 (by omega)]
    refine E2.cc (hT (by omega) _ _ _ _ _ _ z1) (fun a r2 o => o.on (fun nd2 p2 q2 pa2 o2 => ?_) (fun e => ?_))
    · rw [bnd_id]
      exact rd_shut hN (by omega) (OkN.re (pa' := 0) o2 (by omega) (cf3.mono (by omega)) tf3 l14)
    · obtain ⟨e1, e2, e3, e4, e5⟩ := e
      rw [fl_shut e3]
      exact E2.r (OutN.er ⟨e1, e2, e3, (cf3.tr e4).mono (by omega), tf3.tr e5 (Nat.le_refl _)⟩)
end Read19
