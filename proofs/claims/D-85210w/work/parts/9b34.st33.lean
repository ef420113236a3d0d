/-! ===== PHASE 2: the act blame ===== -/
section State33
variable {N x h u nv pa un fs i t s k n A : Nat} {σ τ : gMem} {own rt : Nat → Nat} {S : Sh} {Gs : Nat → Sh} {g : Nat → Nat → Vl} {v w p rm cm c : Int} {ct ct' : Ct}
/-- a version has this content at these marks -/
def hasV (Gs : Nat → Sh) (v rm cm : Int) (ct : Ct) : Prop := 0 ≤ v ∧ (0 ≤ pl (Gs (81 + v.toNat)).1.1 rm ∧ 0 ≤ pl (Gs (81 + v.toNat)).1.2 cm) ∧ atS (Gs (81 + v.toNat)) rm cm = ct
theorem c_hasV (hN : 2000 ≤ N) (R : Rl x h t nv pa un fs Gs g own rt σ τ) (h1 : -1 ≤ v) (h2 : v < nv) (kA : CtC σ A ct) : Ev (x1_has N x v rm cm A σ) (fun w => Is01 w (hasV Gs v rm cm ct)) := by
  have l := R.1.1
  have e4 := l.R (4, 2) (by decide)
  have t2 := l.T (2, 104, 40) (by decide)
  (try dsimp only at e4 t2)
  obtain ⟨c5, n1, n4, -⟩ := R.c5
  unfold x1_has
  by_cases c0 : v ≠ -1
  · obtain ⟨k, rfl⟩ : ∃ k : Nat, v = (k : Int) := ⟨v.toNat, by omega⟩
    have w := R.ver (k := k) (by omega)
    have hv : rtV nv pa un (81 + k) := by unfold rtV; omega
    have sC := R.shC hv
    have b1 := pl_ge (Gs (81 + k)).1.1 rm
    have b2 := pl_ge (Gs (81 + k)).1.2 cm
    refine Ev.g c0 (Ev.g l.1.1 ?_)
    rw [e4, t2.2, tn, w.2]
    refine Ev.g t2.1 (Ev.g (by omega) (Ev.g w.1 (Ev.g sC.1.1 ?_)))
    refine Ev.e (c_row (by omega) sC.1 rm) ?_
    by_cases c1 : pl (Gs (81 + k)).1.1 rm = -1
    · exact Ev.g c1 (Ev.r (Is01.no (fun z => by have := z.2.1.1; rw [tn] at this; omega)))
    · refine Ev.f c1 (Ev.e (c_column (by omega) sC.1 cm) ?_)
      by_cases c2 : pl (Gs (81 + k)).1.2 cm = -1
      · exact Ev.g c2 (Ev.r (Is01.no (fun z => by have := z.2.1.2; rw [tn] at this; omega)))
      · refine Ev.f c2 (Ev.e (c_of (by omega) sC rm cm) (Ev.c (c_alikeC (by omega) l.kc l.z0 (adS_ct sC rm cm) kA) (fun v _ hv => (hv.cg ?_).re)))
        unfold hasV
        rw [tn]
        exact ⟨fun z => ⟨by omega, ⟨by omega, by omega⟩, z⟩, fun z => z.2.2⟩
  · exact Ev.f c0 (Ev.r (Is01.no (fun z => by have := z.1; omega)))
theorem t_hasV (hN : 2000 ≤ N) (R : Rl x h t nv pa un fs Gs g own rt σ τ) (h1 : -1 ≤ v) (h2 : v < nv) (kA : CtB τ h nv c ct) : Ev (tw_hasLike N h v rm cm c τ) (fun w => Is01 w (hasV Gs v rm cm ct)) := by
  obtain ⟨c5, n1, n4, -⟩ := R.c5
  have m60 := R.2.1.2.2.2.1.2.1
  unfold tw_hasLike
  by_cases c0 : 0 ≤ v
  · obtain ⟨k, rfl⟩ : ∃ k : Nat, v = (k : Int) := ⟨v.toNat, by omega⟩
    have hv : rtV nv pa un (81 + k) := by unfold rtV; omega
    have sT := R.shT hv
    rw [tsN_k] at sT
    have len := R.2.1.len hv
    have b1 := pl_ge (Gs (81 + k)).1.1 rm
    have b2 := pl_ge (Gs (81 + k)).1.2 cm
    refine Ev.g c0 ?_
    unfold tw_contentOf
    rw [(sT.pl (by omega) (by omega) len.1 len.2 rm).1, Option.bind_some, (sT.pl (by omega) (by omega) len.1 len.2 cm).2, Option.bind_some]
    by_cases c1 : pl (Gs (81 + k)).1.1 rm < 0
    · rw [if_pos c1, Option.bind_some]
      unfold tw_hasLike_j15
      exact Ev.g (by decide) (Ev.r (Is01.no (fun z => by have := z.2.1.1; rw [tn] at this; omega)))
    · rw [if_neg c1]
      by_cases c2 : 0 ≤ pl (Gs (81 + k)).1.2 cm
      · rw [if_pos c2]
        obtain ⟨p1, e1⟩ : ∃ p1 : Nat, pl (Gs (81 + k)).1.1 rm = (p1 : Int) := ⟨(pl (Gs (81 + k)).1.1 rm).toNat, by omega⟩
        obtain ⟨p2, e2⟩ : ∃ p2 : Nat, pl (Gs (81 + k)).1.2 cm = (p2 : Int) := ⟨(pl (Gs (81 + k)).1.2 cm).toNat, by omega⟩
        rw [e1] at b1 c1
        rw [e2] at b2 c2
        rw [e1, e2]
        rw [if_pos (by omega), Option.bind_some, show (320 * (k : Int) + 10 * (p1 : Int) + (p2 : Int)).toNat = 320 * k + (10 * p1 + p2) by omega]
        have cc := sT.2.2.2.2 (10 * p1 + p2) ⟨by omega, by omega⟩
        have ea : atS (Gs (81 + k)) rm cm = (Gs (81 + k)).2 (10 * p1 + p2) := by
          unfold atS
          rw [e1, e2, if_neg (by omega), tn, tn]
        unfold tw_hasLike_j15
        refine Ev.f (by have := cc.rng; omega) (Ev.c (t_alike (by omega) m60 cc kA) (fun v _ hv => (hv.cg ?_).re))
        unfold hasV
        rw [tn, ea, e1, e2]
        exact ⟨fun z => ⟨by omega, ⟨by omega, by omega⟩, z⟩, fun z => z.2.2⟩
      · rw [if_neg c2, Option.bind_some]
        unfold tw_hasLike_j15
        exact Ev.g (by decide) (Ev.r (Is01.no (fun z => by have := z.2.1.2; rw [tn] at this; omega)))
  · refine Ev.f c0 ?_
    unfold tw_hasLike_j15
    exact Ev.g (by decide) (Ev.r (Is01.no (fun z => c0 z.1)))
theorem both_has (hN : 2000 ≤ N) (R : Rl x h t nv pa un fs Gs g own rt σ τ) (h1 : -1 ≤ v) (h2 : v < nv) (kA : CtC σ A ct) (kB : CtB τ h nv c ct) : ∃ w, x1_has N x v rm cm A σ = some w ∧ tw_hasLike N h v rm cm c τ = some w ∧ Is01 w (hasV Gs v rm cm ct) := by
  obtain ⟨a, ea, ha⟩ := c_hasV (rm := rm) (cm := cm) hN R h1 h2 kA
  obtain ⟨b, eb, hb⟩ := t_hasV (rm := rm) (cm := cm) hN R h1 h2 kB
  exact ⟨a, ea, by rw [eb, hb.uniq ha], ha⟩
theorem blame_l {K : Int → gMem → Option gR} {K' : Int → gMem → Option (Int × gMem)} {Φ : gR → Int × gMem → Prop} (hN : 2000 ≤ N) (R : Rl x h t nv pa un fs Gs g own rt σ τ) (kA : CtC σ A ct) (kB : CtB τ h nv c ct) (hK : ∀ y : Nat, y < nv → E2 (K (y : Int) σ) (K' (y : Int) τ) Φ) : ∀ (m v fu fv : Nat), v ≤ m → v < nv → m + 1 < fu → m + 1 < fv → E2 (x1_blame_l91 N x A rm cm K fu (v : Int) 1 σ) (tw_blame_l80 N h rm cm c K' fv (v : Int) 1 τ) Φ := by
  have l := R.1.1
  have e4 := l.R (4, 2) (by decide)
  have t2 := l.T (2, 104, 40) (by decide)
  (try dsimp only at e4 t2)
  obtain ⟨c5, n1, n4, -⟩ := R.c5
  intro m
  induction m with
  | zero =>
    intro v fu fv h1 h2 h3 h4
    obtain ⟨fu, rfl⟩ : ∃ j, fu = j + 2 := ⟨fu - 2, by omega⟩
    obtain ⟨fv, rfl⟩ : ∃ j, fv = j + 2 := ⟨fv - 2, by omega⟩
    obtain rfl : v = 0 := by omega
    have w := R.ver h2
    obtain ⟨q1, q2, q3, q4, q5, q6, -⟩ := R.vr 0 h2
    unfold x1_blame_l91 tw_blame_l80
    rw [e4, t2.2, tn, q1, q2]
    refine E2.lf (by decide) (E2.lg l.1.1 (E2.lg t2.1 (E2.lg (by omega) (E2.lg w.1 (E2.rf (by decide) (E2.rg (by omega) ?_))))))
    obtain ⟨w1, ew1, fw1, hw1⟩ := both_has (rm := rm) (cm := cm) hN R (v := mI τ (h + 6) 0) (by omega) (by omega) kA kB
    obtain ⟨w2, ew2, fw2, hw2⟩ := both_has (rm := rm) (cm := cm) hN R (v := mI τ (h + 7) 0) (by omega) (by omega) kA kB
    have z1 : w1 = 0 := by
      rcases hw1 with ⟨-, z⟩ | ⟨z, -⟩
      · have := z.1; omega
      · exact z
    have z2 : w2 = 0 := by
      rcases hw2 with ⟨-, z⟩ | ⟨z, -⟩
      · have := z.1; omega
      · exact z
    refine E2.le ew1 (E2.re fw1 (E2.lg z1 (E2.rg z1 (E2.le ew2 (E2.rg (by omega) (E2.re fw2 (E2.lg z2 (E2.rg z2 ?_))))))))
    unfold x1_blame_l91_j156 x1_blame_l91_j169 x1_blame_l91 tw_blame_l80
    exact E2.lg rfl (E2.lg rfl (E2.lg rfl (E2.rg rfl (hK _ h2))))
  | succ m ih =>
    intro v fu fv h1 h2 h3 h4
    obtain ⟨fu, rfl⟩ : ∃ j, fu = j + 2 := ⟨fu - 2, by omega⟩
    obtain ⟨fv, rfl⟩ : ∃ j, fv = j + 2 := ⟨fv - 2, by omega⟩
    have w := R.ver h2
    obtain ⟨q1, q2, q3, q4, q5, q6, -⟩ := R.vr v h2
    unfold x1_blame_l91 tw_blame_l80
    rw [e4, t2.2, tn, q1, q2]
    refine E2.lf (by decide) (E2.lg l.1.1 (E2.lg t2.1 (E2.lg (by omega) (E2.lg w.1 (E2.rf (by decide) (E2.rg (by omega) ?_))))))
    obtain ⟨w1, ew1, fw1, hw1⟩ := both_has (rm := rm) (cm := cm) hN R (v := mI τ (h + 6) v) (by omega) (by omega) kA kB
    obtain ⟨w2, ew2, fw2, hw2⟩ := both_has (rm := rm) (cm := cm) hN R (v := mI τ (h + 7) v) (by omega) (by omega) kA kB
    refine E2.le ew1 (E2.re fw1 ?_)
    by_cases z1 : w1 = 0
    · refine E2.lg z1 (E2.rg z1 (E2.le ew2 (E2.rg (by omega) (E2.re fw2 ?_))))
      by_cases z2 : w2 = 0
      · refine E2.lg z2 (E2.rg z2 ?_)
        unfold x1_blame_l91_j156 x1_blame_l91_j169
        unfold x1_blame_l91 tw_blame_l80
        exact E2.lg rfl (E2.lg rfl (E2.lg rfl (E2.rg rfl (hK _ h2))))
      · refine E2.lf z2 (E2.rf z2 (E2.rg (by omega) ?_))
        have hz : 0 ≤ mI τ (h + 7) v := by
          rcases hw2 with ⟨-, z⟩ | ⟨z, -⟩
          · exact z.1
          · exact absurd z z2
        obtain ⟨y, ey⟩ : ∃ y : Nat, mI τ (h + 7) v = (y : Int) := ⟨(mI τ (h + 7) v).toNat, by omega⟩
        unfold x1_blame_l91_j156 x1_blame_l91_j169
        rw [ey]
        refine E2.lf (by omega) (E2.lf (by decide) (ih y (fu + 1) (fv + 1) (by omega) (by omega) (by omega) (by omega)))
    · refine E2.lf z1 (E2.rf z1 (E2.rg (by omega) ?_))
      have hz : 0 ≤ mI τ (h + 6) v := by
        rcases hw1 with ⟨-, z⟩ | ⟨z, -⟩
        · exact z.1
        · exact absurd z z1
      obtain ⟨y, ey⟩ : ∃ y : Nat, mI τ (h + 6) v = (y : Int) := ⟨(mI τ (h + 6) v).toNat, by omega⟩
      unfold x1_blame_l91_j156 x1_blame_l91_j169
      rw [ey]
      refine E2.lf (by omega) (E2.lf (by decide) (ih y (fu + 1) (fv + 1) (by omega) (by omega) (by omega) (by omega)))
def cdBl : List (String × Int) := [("java/lang/IndexOutOfBoundsException", 1)]
/-- an answer that changes nothing -/
theorem OpO.same {cd : List (String × Int)} (gv : g32 v) (R : Rl x h t nv pa un fs Gs g own rt σ τ) : OpO x h t cd σ τ (.inl (some (vI v)), σ) (v, wI τ h 0 0) := by
  obtain ⟨a1, a2, a3, a4, a5⟩ := OpQ.same (v := v) R
  exact ⟨a1, a2, a3, Or.inl ⟨v, rfl, rfl, a5, gv⟩⟩
/-- blame -/
theorem op_blame {p0 p1 : Int} (hN : 2000 ≤ N) (R : RL x h t σ τ) (g0 : g32 p0) (g1 : g32 p1) : E2 (x1_blame N x p0 p1 σ) (tw_blame N h p0 p1 τ) (OpO x h t cdBl σ τ) := by
  obtain ⟨nv, pa, un, fs, Gs, g, own, rt, R⟩ := R
  have l := R.1.1
  obtain ⟨e8, c⟩ := R.c0
  have Rt := R.t0 (v := 0)
  have s0 := Rt.s0
  have m10 := c.1.2.2.2
  have n32 := c.1.2.1.2.2.1
  obtain ⟨-, -, n4, -⟩ := R.c5
  unfold x1_blame tw_blame
  rw [e8]
  refine E2.lg l.1.1 (E2.lg c.1.1 (E2.le (c_hasS c g0 g1) (E2.rl (E2.re (t_cell40 s0) ?_))))
  by_cases a1 : inS (Gs 0) p0 p1
  · rw [if_pos a1]
    refine E2.lg (by decide) (E2.rg (by decide) ?_)
    unfold inS at a1
    obtain ⟨q0, rfl⟩ : ∃ n : Nat, p0 = ((n + 1 : Nat) : Int) := ⟨(p0 - 1).toNat, by omega⟩
    obtain ⟨q1, rfl⟩ : ∃ n : Nat, p1 = ((n + 1 : Nat) : Int) := ⟨(p1 - 1).toNat, by omega⟩
    have rw0 := c.2.2.2 q0 (by omega)
    have ct0 := rw0.2.2 q1 (by omega)
    have kB := s0.2.2.2.2 (10 * q0 + q1) ⟨by omega, by omega⟩
    have M0 := c.1.2.1
    have M1 := c.1.2.2.1
    have lz := s0.ln
    have w0 : w32 (((q0 + 1 : Nat) : Int) - 1) = (q0 : Int) := by rw [w32_i (by omega) (by omega)]; omega
    have w1 : w32 (((q1 + 1 : Nat) : Int) - 1) = (q1 : Int) := by rw [w32_i (by omega) (by omega)]; omega
    have t0 : (((q0 + 1 : Nat) : Int) - 1).toNat = q0 := by omega
    have t1 : (((q1 + 1 : Nat) : Int) - 1).toNat = q1 := by omega
    obtain ⟨hd, hl, h1, -⟩ := R.head
    obtain ⟨hd', -, h1', h2'⟩ := Rt.head
    rw [h1] at h1'
    have ehd : hd = hd' := by have := Option.some.inj h1'; omega
    subst ehd
    rw [w0, w1, t0, t1]
    refine E2.lg c.2.1 (E2.lg (by rw [c.2.2.1]; omega) (E2.lg rw0.1 (E2.lg (by rw [rw0.2.1]; omega) (E2.lg M0.1 (E2.lg (by rw [M0.2.1]; omega) (E2.lg M1.1 (E2.lg (by rw [M1.2.1]; omega) (E2.le h1 ?_))))))))
    have a32 : axM 0 = 32 := rfl
    have a10 : axM 1 = 10 := rfl
    refine E2.re (t_lineAt (s := 40) (ax := 0) (by decide) (by omega)) (E2.re (t_lineAt (s := 40) (ax := 1) (by decide) (by omega)) ?_)
    rw [lz.1.2 q0 (by omega), lz.2.2 q1 (by omega), M0.2.2.2 q0 (by omega), M1.2.2.2 q1 (by omega)]
    unfold tw_cellAt
    rw [if_pos (by omega), Option.bind_some, show (320 * (40 : Int) + 10 * (((q0 + 1 : Nat) : Int) - 1) + ((q1 + 1 : Nat) : Int) - 1).toNat = 320 * 40 + (10 * q0 + q1) by omega]
    obtain ⟨w, ew, fw, hw⟩ := both_has (rm := gl (Gs 0).1.1 q0) (cm := gl (Gs 0).1.2 q1) hN Rt (v := (hd : Int)) (by omega) (by omega) ct0 kB
    refine E2.le ew (E2.re h2' (E2.re fw ?_))
    by_cases z : w ≠ 0
    · exact E2.lg z (E2.rg z (blame_l hN Rt ct0 kB (fun y hy => E2.r (OpO.same ⟨by omega, by omega⟩ R)) hd hd N N (Nat.le_refl _) hl (by omega) (by omega)))
    · exact E2.lf z (E2.rf z (E2.r (OpO.same (v := -1) (by decide) R)))
  · rw [if_neg a1]
    exact E2.lf (by decide) (E2.rf (by decide) (E2.r (OpO.ex R (by decide) (by decide))))
end State33
