/-! ===== PHASE 2: reading: the loop over a call's parts ===== -/
section Read37
variable {N x h hi all nv sh M lu0 b b' p q op pa pi : Nat} {bA : Nat → Int} {f : Int → List Int × List Int} {σ σ' σ'' τ τ' τ'' s r σ0 τ0 σ1 τ2 : gMem} {p0 pa0 nd k kk lu : Nat} {LZ LZ' : Prop} {W : Nat → gMem → Option gR} {Wt : gMem → Option gMem}
theorem bOr_w32 {a b : Int} : w32 (bOr a b) = bOr a b := by
  show (Int32.ofInt (Int32.toInt _)).toInt = _
  rw [Int32.ofInt_toInt]; rfl
/-- what holds at the head of the loop, but for where the next part begins -/
def ArI (x h hi nv M lu0 : Nat) (kk p0 pa0 pi : Nat) (σ0 τ0 σ τ : gMem) (pz pa kf : Nat) (ms : List Nat) (v : Bool) : Prop :=
  CF x σ0 σ kf ∧ kf + ms.length + p0 ≤ pz ∧ TF (lu0 + hi) h τ0 τ (M + pa0) ∧ pa = pa0 + ms.sum ∧ pa + p0 ≤ pz + pa0 ∧ PL kk (mI σ (x + 1429) 14 = 0) x σ τ h nv (M + pa0) pi ms v ∧ (mI σ (x + 1429) 14 = 0 → mI σ0 (x + 1429) 14 = 0)
theorem rd_args {a : Nat} {v2 v3 v2' : Int} {Kc : gMem → Option gR} {Kt : Int → Int → gMem → Option gMem} {Φ : gR → gMem → Prop} (hN : 500 ≤ N) (fn : FN nv f) (hT : RdG x h hi all nv sh M lu0 bA f (op + 1) (x6_test N W (x + 1429)) (tw_readTest N Wt h)) (hk : kk < 18)
    (hK : ∀ (σ τ : gMem) (q pa kf : Nat) (ms : List Nat) (v : Bool), 0 < ms.length → S2 x h hi all nv sh M lu0 bA f σ τ q q (op + 1) pa (pi + ms.length) → ArI x h hi nv M lu0 kk p0 pa0 pi σ0 τ0 σ τ q pa kf ms v → E2 (Kc σ) (Kt (ms.length : Nat) (if v then 1 else 0) τ) Φ)
    (hE : ∀ (s τ : gMem) (n v : Int), ErN x h hi M lu0 σ0 τ0 p0 pa0 s τ → E2 (some (.inr "SheetBranches$Wrong", s)) (Kt n v τ) Φ) :
    ∀ (w fu fu' : Nat) (σ τ : gMem) (p q pa p1 kf pz : Nat) (ms : List Nat) (v : Bool), pz + 1 ≤ p1 → w < fu → w < fu' → hi < p1 + w → S2 x h hi all nv sh M lu0 bA f σ τ p q (op + 1) pa (pi + ms.length) → mI τ h 49 = p1 → p ≤ p1 → p1 ≤ hi → ArI x h hi nv M lu0 kk p0 pa0 pi σ0 τ0 σ τ pz pa kf ms v → E2 (x6_call_l31 N W (x + 1429) a v2 v3 Kc fu 1 (wI σ (x + 1429) 6 p1)) (tw_readCall_l44 N Wt h (nmk kk) v2' Kt fu' (ms.length : Nat) (if v then 1 else 0) 1 τ) Φ := by
  intro w
  induction w with
  | zero => intro fu fu' σ τ p q pa p1 kf pz ms v _ _ _ h3 _ _ _ h7 _; omega
  | succ w ih =>
    intro fu fu' σ τ p q pa p1 kf pz ms v hz h1 h2 h3 S h49 hp hh I
    obtain ⟨fu, rfl⟩ : ∃ i, fu = i + 1 := ⟨fu - 1, by omega⟩
    obtain ⟨fu', rfl⟩ : ∃ i, fu' = i + 1 := ⟨fu' - 1, by omega⟩
    obtain ⟨i1, i2, i3, i4, i5, i6, i7⟩ := I
    have c := S.1
    have tx := c.1.2.2.2.2.2.2.2
    have h4 : hi ≤ 400 := by have := tx.2.2.1; have := tx.2.2.2; omega
    have t5 := S.2.2.2.1.2.2.2.2
    have s11 := S.2.2.1.2.2.2
    have b4 := S.2.2.2.2.2.2.2.2.1
    have w6 : mT (wI σ (x + 1429) 6 p1) (x + 1429) = 6 := c.1.1
    unfold x6_call_l31 tw_readCall_l44
    refine E2.lf (by decide) (E2.lg w6 (E2.rf (by decide) (E2.rf (fun z => z t5) (E2.rc (S.adv hN hp hh h49) (fun τ1 z => ?_)))))
    obtain ⟨q1, S1, z2, z3, z4⟩ := z
    have l14 : mI (wI σ (x + 1429) 6 p1) (x + 1429) 14 = mI σ (x + 1429) 14 := mIwI1 (by omega)
    obtain ⟨a', r2, ea, eb, o⟩ := rd_arg hN fn hT S1
    refine E2.er (y' := tw_readCall_l44_j92 N Wt h (nmk kk) v2' (ms.length : Nat) (if v then 1 else 0) 1 (tw_readCall_l44 N Wt h (nmk kk) v2' Kt fu') Kt r2) (eb (fun s => tw_readCall_l44_j92 N Wt h (nmk kk) v2' (ms.length : Nat) (if v then 1 else 0) 1 (tw_readCall_l44 N Wt h (nmk kk) v2' Kt fu') Kt s)) ?_
    refine E2.le ea (o.on (fun nd p2 q2 pa2 o2 => ?_) (fun e => ?_))
    · obtain ⟨S', a1, a2, a3, a4, a5, a6, a7, a8⟩ := o2
      have c' := S'.1
      obtain ⟨d1, d2, d3, -, -, -, -⟩ := c'.2.2.1
      have s11' := S'.2.2.1.2.2.2
      have b1' := S'.2.2.2.2.2.1
      have b4' := S'.2.2.2.2.2.2.2.2.1
      have b5' := S'.2.2.2.2.2.2.2.2.2.1
      have g := a6.2.1.1
      obtain ⟨Sp, cfp, rp, fj⟩ := S'.push (nd := nd) (by omega)
      obtain ⟨r, er, e1, S3, cf3, fk3, pq3, qh3⟩ := Sp.pk hN
      have vi : ((pi + ms.length : Nat) : Int).toNat = pi + ms.length := tn _
      refine E2.lg (by rw [d1]; exact d2) (E2.lg (Or.inr (gPA g)) (E2.lg (by rw [s11', d1, d3]; omega) ?_))
      rw [d1, s11', vi]
      refine E2.ll ?_
      rw [show mI (wR a'.2 (x + 1430) (pi + ms.length) nd) (x + 1429) 11 = mI a'.2 (x + 1429) 11 from rfl, s11', inc32 (by omega)]
      refine E2.ll (E2.le er ?_)
      -- the twin
      have t25 : mI r2 h 25 = M := S'.2.1.2.2.2.2.1
      have m6 := S'.2.1.2.2.2.2.2
      have t56 : mI r2 h 56 = pa2 := S'.2.2.2.1.2.2.2.1
      have b3' := S'.2.2.2.2.2.2.2.1
      obtain ⟨τ', et, eτ⟩ := t_took (N := N) (Wt := Wt) (σ := a'.2) (nd := nd) (kk := kk) (v2 := v2') (n := ms.length) (P := M + pa2 - 1) (v := v) (Kh := tw_readCall_l44 N Wt h (nmk kk) v2' Kt fu') (K := Kt) (τ := r2) (h := h) hk S'.2.2.2.1.2.2.2.2 (by rw [t25, t56, w32_i (by omega) (by omega)]; omega) (by omega) (by omega) (by have := a6.2.1.2.1; rw [show M + pa + (pa2 - pa) - 1 = M + pa2 - 1 by omega] at this; exact this) (by have := a6.2.1.2.2.1; rw [show M + pa + (pa2 - pa) - 1 = M + pa2 - 1 by omega] at this; exact this) (by have := a6.2.1.2.2.2; rw [show M + pa + (pa2 - pa) - 1 = M + pa2 - 1 by omega] at this; exact this) (fun v => mIwI1 (by omega))
      refine E2.er et ?_
      have e47 : mI r2 h 47 = tkK bA q2 := S3.2.2.2.1.2.1.1
      rw [e1, e47]
      -- the state behind
      have SM : S2 x h hi all nv sh M lu0 bA f r.2 τ' q2 q2 (op + 1) pa2 (pi + ms.length + 1) ∧ TF (lu0 + hi) h r2 τ' (M + pa) := by
        by_cases zz : v = true ∧ (kk = 16 ∨ kk = 17) ∧ mI r2 (h + 14) (M + pa2 - 1) = 5
        · rw [if_pos zz] at eτ
          rw [eτ]; exact S3.mark (by omega)
        · rw [if_neg zz] at eτ
          rw [eτ]; exact ⟨S3, TF.rf b5'⟩
      obtain ⟨S4, tm⟩ := SM
      have cfa : CF x (wI σ (x + 1429) 6 p1) r.2 (p2 - p1) := ((a4.tr cfp).tr cf3).mono (by omega)
      have cfr : CF x σ r.2 (p2 - p1) := (z4.tr cfa).mono (by omega)
      have tfr : TF (lu0 + hi) h τ τ' (M + pa) := (z2.tr a5 (Nat.le_refl _)).tr tm (Nat.le_refl _)
      have f14 : mI r.2 (x + 1429) 14 = mI a'.2 (x + 1429) 14 := by rw [fk3 14 (by decide), fj 14 (by decide)]
      have lzz : mI r.2 (x + 1429) 14 = 0 → mI σ (x + 1429) 14 = 0 := fun z => by rw [← l14]; exact a7 (by rw [← f14]; exact z)
      have ok' := c'.2.2.2.2.1
      have tnd : mT r.2 nd = mT a'.2 nd := (cfp.tr cf3).1.tag ok' (by have := gPart_t g; omega)
      have rnd : mR r.2 (x + 1430) (pi + ms.length) = nd := by
        rw [cf3.pl (by rw [Sp.2.2.1.2.2.2]; omega)]; exact rp
      have n14 : ∀ j, mI τ' (h + 14) j = mI r2 (h + 14) j := fun j => by
        by_cases zz : v = true ∧ (kk = 16 ∨ kk = 17) ∧ mI r2 (h + 14) (M + pa2 - 1) = 5
        · rw [if_pos zz] at eτ
          rw [eτ, mIwI1 (by omega)]
        · rw [if_neg zz] at eτ
          rw [eτ]
      have cfx := cfp.tr cf3
      -- the part, moved to the state behind
      have PLn : PL kk (mI r.2 (x + 1429) 14 = 0) x r.2 τ' h nv (M + pa0) pi (ms ++ [pa2 - pa]) (v && tkC kk ms.length (mT a'.2 nd)) := by
        refine (i6.mv (k := p2 - p1) (b2 := M + pa) c cfr tfr lzz (by omega) (by omega)).step ?_ ?_ ?_
        · rw [rnd, show M + pa0 + ms.sum = M + pa by omega]
          by_cases zz : kk = 16 ∨ kk = 17
          · obtain ⟨⟨n1, n2⟩, ⟨n3, n4, n5, n6⟩, n7⟩ := a6
            have n16 : ∀ j, mI τ' (h + 16) j = mI r2 (h + 16) j := fun j => by
              by_cases z : v = true ∧ (kk = 16 ∨ kk = 17) ∧ mI r2 (h + 14) (M + pa2 - 1) = 5
              · rw [if_pos z] at eτ
                rw [eτ, mIwI1 (by omega)]
              · rw [if_neg z] at eτ
                rw [eτ]
            refine ⟨⟨by rw [n16]; exact n1, n2⟩, ?_, fun z => absurd zz z.2⟩
            rw [tnd, n14]; exact ⟨n3, n4, n5, n6⟩
          · rw [if_neg (fun z => zz z.2.1)] at eτ
            rw [eτ]
            exact a6.mv c' cfx (TF.rf (lu0 := lu0) (hi := hi) (b := M + pa2) b5') (by omega) (fun z => by rw [← f14]; exact z.1)
        · intro zz hv' em
          subst em
          have vt : v = true := by cases v with
            | true => rfl
            | false => cases hv'
          have rnd' : mR r.2 (x + 1430) pi = nd := rnd
          have pp : pa = pa0 := by simpa using i4
          subst pp
          rw [rnd']
          refine ⟨mI r2 (h + 24) (M + pa + (pa2 - pa) - 1), ?_, mI_w32, ?_⟩
          · have eW : wI τ' (h + 24) (M + pa + (pa2 - pa) - 1) (mI r2 (h + 24) (M + pa + (pa2 - pa) - 1)) = r2 := by
              rw [show M + pa + (pa2 - pa) - 1 = M + pa2 - 1 by omega, eτ]
              by_cases z : v = true ∧ (kk = 16 ∨ kk = 17) ∧ mI r2 (h + 14) (M + pa2 - 1) = 5
              · rw [if_pos z, wI_over, wI_self]
              · rw [if_neg z, wI_self]
            rw [eW]
            exact a6.mv c' cfx (TF.rf (lu0 := lu0) (hi := hi) (b := M + pa2) b5') (by omega) (fun z => by rw [← f14]; exact z)
          · rw [show M + pa + (pa2 - pa) - 1 = M + pa2 - 1 by omega, n14, eτ]
            by_cases z : mI r2 (h + 14) (M + pa2 - 1) = 5
            · rw [if_pos ⟨vt, zz, z⟩, if_pos z, mIwI2 ⟨rfl, rfl⟩]
              have fN : 0 ≤ mI r2 (h + 24) (M + pa2 - 1) ∧ mI r2 (h + 24) (M + pa2 - 1) < 16 ∨ True := Or.inr trivial
              exact bOr_w32
            · rw [if_neg (fun y => z y.2.2), if_neg z]
        · rw [rnd, tnd]
      have IN : ArI x h hi nv M lu0 kk p0 pa0 pi σ0 τ0 r.2 τ' q2 pa2 (kf + (p2 - p1)) (ms ++ [pa2 - pa]) (v && tkC kk ms.length (mT a'.2 nd)) := by
        refine ⟨i1.tr cfr, ?_, i3.tr tfr (by omega), ?_, by omega, PLn, fun z => i7 (lzz z)⟩
        · rw [List.length_append, List.length_singleton]; omega
        · rw [List.sum_append, List.sum_singleton]; omega
      have ln : (ms ++ [pa2 - pa]).length = ms.length + 1 := by rw [List.length_append, List.length_singleton]
      have S5 : S2 x h hi all nv sh M lu0 bA f r.2 τ' q2 q2 (op + 1) pa2 (pi + (ms ++ [pa2 - pa]).length) := by rw [ln]; exact S4
      rw [show ((ms.length + 1 : Nat) : Int) = ((ms ++ [pa2 - pa]).length : Nat) by rw [ln]]
      by_cases e44 : bA q2 = 44
      · have k8 := tk678.2.2.mpr e44
        have qh : q2 < hi := tx.lt (fun z => by rw [e44] at z; cases z)
        rw [if_neg (fun z => z e44), k8]
        unfold x6_call_l31_j77
        refine E2.lf (by decide) (E2.lg S5.1.1.1 (E2.ll ?_))
        rw [S5.2.2.1.1, inc32 (by omega)]
        have e49 : mI τ' h 49 = ((q2 + 1 : Nat) : Int) := S5.2.2.2.1.2.1.2.2.2.2.1 (Or.inr (Or.inr k8))
        exact ih fu fu' r.2 τ' q2 q2 pa2 (q2 + 1) (kf + (p2 - p1)) q2 _ _ (Nat.le_refl _) (by omega) (by omega) (by omega) S5 e49 (by omega) (by omega) IN
      · have k8 : ¬ tkK bA q2 = 8 := fun z => e44 (tk678.2.2.mp z)
        rw [if_pos e44, if_neg k8]
        unfold x6_call_l31_j77
        rw [if_pos rfl]
        obtain ⟨fu, rfl⟩ : ∃ i, fu = i + 1 := ⟨fu - 1, by omega⟩
        obtain ⟨fu', rfl⟩ : ∃ i, fu' = i + 1 := ⟨fu' - 1, by omega⟩
        unfold x6_call_l31 tw_readCall_l44
        refine E2.lg rfl (E2.rg rfl ?_)
        exact hK _ _ _ _ _ _ _ (by rw [ln]; omega) S5 IN
    · obtain ⟨e1, e2, e3, e4, e5⟩ := e
      unfold tw_readCall_l44_j92
      refine E2.rg (by omega) ?_
      obtain ⟨fu', rfl⟩ : ∃ i, fu' = i + 1 := ⟨fu' - 1, by omega⟩
      unfold tw_readCall_l44
      refine E2.rf (by decide) (E2.rg (by omega) ?_)
      exact hE _ _ _ _ ⟨e1, e2, e3, ((i1.tr z4).tr e4).mono (by omega), (i3.tr z2 (by omega)).tr e5 (by omega)⟩
end Read37
