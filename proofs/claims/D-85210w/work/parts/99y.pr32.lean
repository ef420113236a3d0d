/-! ===== PHASE 2: reading: a minus ahead ===== -/
section Read32
variable {N x h hi all nv sh M lu0 b b' p q op pa pi : Nat} {bA : Nat → Int} {f : Int → List Int × List Int} {σ σ' σ'' τ τ' τ'' s r σ0 τ0 σ1 τ2 : gMem} {p0 pa0 nd k lu : Nat} {W : Nat → gMem → Option gR} {Wt : gMem → Option gMem}
theorem one_ok {l1 : Fm} (h1 : pK (lab l1) ≠ 6) : PtOk (mkO 7 [l1].length) ∧ argsOk (mkO 7 [l1].length) ([l1].map lab) := by
  refine ⟨Or.inr (Or.inr (Or.inr (Or.inr (Or.inr (Or.inr ⟨7, 1, rfl, Or.inl (by decide)⟩))))), ?_⟩
  unfold argsOk
  rw [if_neg (show ¬ pK (mkO 7 [l1].length) ≤ 6 by show ¬ 7 ≤ 6; decide), if_pos (show pK (mkO 7 [l1].length) = 7 from rfl)]
  refine ⟨rfl, fun y hy => ?_⟩
  rw [List.mem_singleton.mp hy]; exact h1
theorem op_one {nd1 m1 : Nat} (hN : 500 ≤ N) (S : S2 x h hi all nv sh M lu0 bA f σ τ p q op pa pi) (hpa : pa < p) (hb : b + m1 = M + pa) (n1 : ND (mI σ (x + 1429) 14 = 0) σ nd1 τ h nv b m1) (na1 : mI τ (h + 14) (b + m1 - 1) ≠ 6) : E2 (gLet (wI σ (x + 1429) 8 (w32 ((mI σ (x + 1429) 8) + 1))) (fun s15 => gLet (wN s15 19 1) (fun s18 => (x21_init (mZ s15) nd1 s18).bind (fun x20 => some ((.inl (some (vR (mZ s15))), x20) : gR))))) (tw_part N h 7 1 τ) (fun a a2 => ∃ nd, a.1 = .inl (some (vR nd)) ∧ S2 x h hi all nv sh M lu0 bA f a.2 a2.2 p q op (pa + 1) pi ∧ CF x σ a.2 1 ∧ TF (lu0 + hi) h τ a2.2 (M + pa) ∧ ND (mI a.2 (x + 1429) 14 = 0) a.2 nd a2.2 h nv b (m1 + 1) ∧ mI a.2 (x + 1429) 14 = mI σ (x + 1429) 14 ∧ mI a2.2 (h + 14) (M + pa) = 7) := by
  have S0 := S
  obtain ⟨c, t, ⟨s1, s2, s3, s4⟩, ⟨t1, t2, t3, t4, t5⟩, ⟨l1, l2, l3⟩, b1, b2, b3, b4, b5, b6, b7⟩ := S
  have tx := c.1.2.2.2.2.2.2.2
  have h4 : hi ≤ 400 := by have := tx.2.2.1; have := tx.2.2.2; omega
  have ok := c.2.2.2.2.1
  have lt := c.lt
  have e1 : mT (wN (wI σ (x + 1429) 8 ((pa + 1 : Nat) : Int)) 19 1) (mZ σ) = 19 := by rw [mT_wN, mZ_wI, if_pos rfl]
  have eA : (gLet (wI σ (x + 1429) 8 (w32 ((mI σ (x + 1429) 8) + 1))) (fun s15 => gLet (wN s15 19 1) (fun s18 => (x21_init (mZ s15) nd1 s18).bind (fun x20 => some ((.inl (some (vR (mZ s15))), x20) : gR))))) = some (.inl (some (vR (mZ σ))), wR (wN (wI σ (x + 1429) 8 ((pa + 1 : Nat) : Int)) 19 1) (mZ σ) 0 nd1) := by
    unfold x21_init
    rw [s3, inc32 (by omega)]
    simp only [gLet, mZ_wI, e1, eq_self, if_true, Option.bind_some]
  have CFr : CF x σ (wR (wN (wI σ (x + 1429) 8 ((pa + 1 : Nat) : Int)) 19 1) (mZ σ) 0 nd1) 1 := (((CF.rf c).wQ (i := 8) (v := ((pa + 1 : Nat) : Int)) (by omega)).wN' (t := 19) (n := 1) (Or.inr trivial) (fun z => by cases z) (by decide)).wR' (Nat.le_refl _) (fun z => by rw [e1] at z; cases z)
  obtain ⟨r, hr⟩ : ∃ r, r = wR (wN (wI σ (x + 1429) 8 ((pa + 1 : Nat) : Int)) 19 1) (mZ σ) 0 nd1 := ⟨_, rfl⟩
  have rT : mT r (mZ σ) = 19 := by rw [hr, mT_wR]; exact e1
  have r0 : mR r (mZ σ) 0 = nd1 := by rw [hr, mR_wR, if_pos ⟨rfl, rfl⟩]
  have rI : ∀ j, mI r (x + 1429) j = mI (wI σ (x + 1429) 8 ((pa + 1 : Nat) : Int)) (x + 1429) j := fun j => by rw [hr, mI_wR, mI_wN, mZ_wI, if_neg (by omega)]
  have ri : ∀ j, j ≠ 8 → mI r (x + 1429) j = mI σ (x + 1429) j := fun j hj => by rw [rI, mIwI1 (by omega)]
  have r8 : mI r (x + 1429) 8 = ((pa + 1 : Nat) : Int) := by rw [rI, mIwI2 ⟨rfl, rfl⟩, w32_i (by omega) (by omega)]
  rw [← hr] at eA CFr
  have sc : SpC τ h (M + pa) [m1] := by
    obtain ⟨⟨y1, y2⟩, -⟩ := n1
    exact ⟨y2, by omega, by rw [← hb]; exact y1, trivial⟩
  refine E2.lv eA ((t_part (k := 7) (ms := [m1]) hN t.2.2.2.2.1 t.2.2.2.2.2 t4 (by omega) t5 (by decide) (show 1 ≤ 400 by decide) sc).m (fun a2 z => ?_))
  obtain ⟨z1, z2, z3, z4⟩ := z
  have tf : TF (lu0 + hi) h τ a2.2 (M + pa) := TF.ex z2 b5 (fun a j y => by
    rcases y with y | ⟨o, o1, o2, o3, o4⟩
    · exact Or.inl ⟨y.1, by omega⟩
    · exact Or.inr ⟨o, o1, o2, o3, by omega⟩)
  have nP : ∀ j, j ≠ 56 → ¬ PtP h (M + pa) h j := fun j hj y => by
    rcases y with y | ⟨o, o1, o2, o3, o4⟩ <;> omega
  have i19 : mI a2.2 h 19 = mI τ h 19 := z2.rI (nP 19 (by decide))
  refine ⟨mZ σ, rfl, ⟨c.cf CFr, t.tf tf, ⟨by rw [ri 6 (by decide)]; exact s1, by rw [ri 7 (by decide)]; exact s2, r8, by rw [ri 11 (by decide)]; exact s4⟩, ⟨t1, t2.ex z2 (fun j j1 j2 => nP j (by omega)), by rw [z2.rI (nP 57 (by decide))]; exact t3, z3, by rw [z2.rI (nP 41 (by decide))]; exact t5⟩, ⟨by rw [z2.rI (nP 58 (by decide)), ri 14 (by decide)]; exact l1, by rw [z2.rI (nP 59 (by decide)), ri 14 (by decide), ri 15 (by decide)]; exact l2, by rw [ri 14 (by decide)]; exact l3⟩, b1, b2, by omega, b4, by omega, by omega, b7⟩, CFr, tf, ⟨⟨?_, by omega⟩, ⟨?_, ?_, ?_, ?_⟩, fun lz => ?_⟩, ri 14 (by decide), z4.1⟩
  · have e3 := z4.2.2.1
    rw [show b + (m1 + 1) - 1 = M + pa by omega, e3]
    simp only [List.sum_cons, List.sum_nil]; omega
  · rw [rT]; decide
  · rw [show b + (m1 + 1) - 1 = M + pa by omega, z4.1, rT]; decide
  · rw [show b + (m1 + 1) - 1 = M + pa by omega, z4.1, rT]; decide
  · rw [show b + (m1 + 1) - 1 = M + pa by omega, z4.1, rT]; decide
  · have lz' : mI σ (x + 1429) 14 = 0 := by rw [← ri 14 (by decide)]; exact lz
    obtain ⟨y1, u1, u2, u3⟩ := n1.2.2 lz'
    have w3 := u3.tf tf (b := M + pa) (by omega)
    have k1 : pK (lab y1) ≠ 6 := fun e => na1 (by have := u3.lab; rw [u1, e] at this; exact this)
    obtain ⟨po, ao⟩ := one_ok k1
    have fl : [y1].flatten.length = m1 := by simp [u1]
    have rs : RwS a2.2 h nv b [y1] := ⟨w3, trivial⟩
    refine ⟨[y1].flatten ++ [mkO 7 [y1].length], ?_, ?_, ?_⟩
    · rw [List.length_append, fl]; rfl
    · refine ⟨mkO 7 1, [y1], rfl, rfl, ?_, po, ao, fun i hi => ?_⟩
      · exact Or.inr (Or.inr (Or.inr (Or.inr (Or.inr (Or.inr (Or.inl ⟨rT, rfl⟩))))))
      · have hi' : i < 1 := hi
        obtain rfl : i = 0 := by omega
        have e19 : chd r (mZ σ) 0 = nd1 := by unfold chd; rw [if_pos rT, r0]
        show IsP r m1 (chd r (mZ σ) 0) y1
        rw [e19]
        exact c.isp CFr _ _ _ u2
    · refine RwT.op rs (by decide) ?_ po ao (by rw [fl]; have := t.2.2.2.2.2; omega) (by omega)
      rw [fl, hb]
      have e := z4
      simp only [List.sum_cons, List.sum_nil] at e
      have e2 : ((1 + (m1 + 0) : Nat) : Int) = ((1 + m1 : Nat) : Int) := by omega
      rw [e2] at e
      exact e
end Read32
