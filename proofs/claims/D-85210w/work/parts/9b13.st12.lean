/-! ===== PHASE 2: the acts: erase ===== -/
section State12
variable {N x h s t u b nv nv' pa un fs i : Nat} {σ σ' τ τ' τ'' r : gMem} {P : Nat → Nat → Prop} {W : Nat → Prop} {own own' rt rt' : Nat → Nat} {S S' S0 : Sh} {Gs Gs' : Nat → Sh} {g : Nat → Nat → Vl} {c : Int} {ct : Ct} {a A : Nat} {s : gMem}
theorem w32_m1 {v : Int} (hv : g32 v) {n : Nat} (hn : n ≤ 1000) : (0 ≤ w32 (v - 1) ∧ w32 (v - 1) < n) ↔ (1 ≤ v ∧ v ≤ n) := by
  unfold g32 at hv
  by_cases e : v = -2147483648
  · subst e
    have : w32 (-2147483648 - 1) = 2147483647 := by decide
    rw [this]; omega
  · rw [w32_i (by omega) (by omega)]; omega
/-- whether there is such a cell -/
abbrev inS (S : Sh) (v w : Int) : Prop := 1 ≤ v ∧ v ≤ S.1.1.length ∧ 1 ≤ w ∧ w ≤ S.1.2.length
theorem c_hasS {v w : Int} (c : ShC σ a S) (hv : g32 v) (hw : g32 w) : x9_has a (w32 (v - 1)) (w32 (w - 1)) σ = some (if inS S v w then 1 else 0) := by
  have n32 := c.1.2.1.2.2.1
  have m10 := c.1.2.2.2
  rw [c_has c.1]
  have h1 := w32_m1 hv (n := S.1.1.length) (by omega)
  have h2 := w32_m1 hw (n := S.1.2.length) (by omega)
  by_cases e : inS S v w
  · have e' := e
    unfold inS at e'
    rw [if_pos e, if_pos ⟨(h1.mpr ⟨e'.1, e'.2.1⟩).1, (h1.mpr ⟨e'.1, e'.2.1⟩).2, (h2.mpr e'.2.2).1, (h2.mpr e'.2.2).2⟩]
  · rw [if_neg e, if_neg (fun z => e ⟨(h1.mp ⟨z.1, z.2.1⟩).1, (h1.mp ⟨z.1, z.2.1⟩).2, h2.mp z.2.2⟩)]
theorem t_isCellS {v w : Int} (k : ShT τ h nv t S) (hs : t < 122) : tw_isCell h t v w τ = some (if inS S v w then 1 else 0) := t_isCell k.1 k.2.1 hs
theorem t_cell40 {v w : Int} (k : ShT τ h nv 40 S) : tw_isCell h 40 v w τ = some (if inS S v w then 1 else 0) := t_isCellS (t := 40) k (by decide)
theorem Rl.c0 (R : Rl x h t nv pa un fs Gs g own rt σ τ) : mR σ x 8 = rt 0 ∧ ShC σ (rt 0) (Gs 0) := ⟨R.1.2.2.2.2.1 0 (Or.inl rfl), (R.1.2.2.2.1.1 0 (Or.inl rfl)).1⟩
theorem Rl.s0 (R : Rl x h t nv pa un fs Gs g own rt σ τ) : ShT τ h nv 40 (Gs 0) := R.2.1.2.2.2.2.1 0 (Or.inl rfl)
theorem Rl.p0 (R : Rl x h t nv pa un fs Gs g own rt σ τ) : ShP (mI τ h 6) (mI τ h 7) nv (Gs 0) := R.2.2.2.1 0 (Or.inl rfl)
theorem OpO.ex {cd : List (String × Int)} {E : String} {k : Int} (R : Rl x h t nv pa un fs Gs g own rt σ τ) (m : (E, k) ∈ cd) (k0 : 0 < k ∧ k < 100) : OpO x h t cd σ τ (.inr E, wX σ 6) (0, wI (wI τ h 0 0) h 0 k) :=
  ⟨⟨nv, pa, un, fs, Gs, g, own, rt, R.cX.t0.t0.t1⟩, FrL.X R.1.1, (Ex.rf.I (by unfold TwA; omega)).I (by unfold TwA; omega), Or.inr ⟨E, k, rfl, m, by rw [mIwI2 ⟨rfl, rfl⟩, w32_i (by omega) (by omega)], by omega⟩⟩
theorem StF.nt (f : StF x σ r) (hh : h = x + 1471) : Kz (NoT x h) σ r := f.1.mono (fun a w => by unfold StW at w; unfold NoT; omega)
theorem StP.ta {a k : Nat} (p : StP h a k) : TwA h a k := by have := p.out; unfold TwA; omega
section Er
variable {c1 : Nat} {K : Int → gMem → Option gR} {Kt : Int → gMem → Option (Int × gMem)} {Φ : gR → Int × gMem → Prop} {v2 v3 w2 w3 : Int}
theorem er_in {B : Nat} (hB : B ≤ 20000) (R : Rl x h t nv pa un fs Gs g own rt σ τ) (hK : ∀ (s r : gMem) (S' : Sh) (n : Nat), n ≤ B → Wk h nv σ τ s r (rt 0) (Gs 0) S' → ShP (mI τ h 6) (mI τ h 7) nv S' → E2 (K n s) (Kt n r) Φ) {rr : Nat} (hr : rr < (Gs 0).1.1.length) (hc : c1 ≤ (Gs 0).1.2.length) : ∀ (m cc fu fu' n : Nat) (s r : gMem) (S' : Sh), cc + m = c1 → m < fu → m < fu' → n + m ≤ B → Wk h nv σ τ s r (rt 0) (Gs 0) S' → ShP (mI τ h 6) (mI τ h 7) nv S' → E2 (x1_erase_l32 N x v2 v3 c1 rr K fu n cc s) (tw_erase_l71 N h w2 w3 c1 ((rr + 1 : Nat) : Int) Kt fu' n ((cc + 1 : Nat) : Int) r) Φ := by
  have l := R.1.1
  obtain ⟨e8, c⟩ := R.c0
  have n32 := c.1.2.1.2.2.1
  have m10 := c.1.2.2.2
  have o := (R.1.2.2.2.1.1 0 (Or.inl rfl)).2.1
  intro m
  induction m with
  | zero =>
    intro cc fu fu' n s r S' h1 h2 h3 h4 w sp
    obtain ⟨fu, rfl⟩ : ∃ j, fu = j + 1 := ⟨fu - 1, by omega⟩
    obtain ⟨fu', rfl⟩ : ∃ j, fu' = j + 1 := ⟨fu' - 1, by omega⟩
    unfold x1_erase_l32 tw_erase_l71
    exact E2.lg (by omega) (E2.rg (by omega) (hK s r S' n (by omega) w sp))
  | succ m ih =>
    intro cc fu fu' n s r S' h1 h2 h3 h4 w sp
    obtain ⟨fu, rfl⟩ : ∃ j, fu = j + 1 := ⟨fu - 1, by omega⟩
    obtain ⟨fu', rfl⟩ : ∃ j, fu' = j + 1 := ⟨fu' - 1, by omega⟩
    obtain ⟨a2, aq, a0, a1⟩ := w.addr c
    have tS := w.1.2.2.1
    have nS := w.1.2.2.2.1
    have eX : mR s x 8 = rt 0 := by
      rw [w.2.1 x 8 (fun q hq e => by have := (c.2.2.2 q hq).1; rw [← e, l.1.1] at this; cases this)]; exact e8
    have s9 : S'.1.1 = (Gs 0).1.1 ∧ S'.1.2 = (Gs 0).1.2 := by rw [w.2.2.2.1]; exact ⟨rfl, rfl⟩
    have rw0 := w.2.2.1.2.2.2 rr (by rw [s9.1]; exact hr)
    rw [a2, aq] at rw0
    have cS := rw0.2.2 cc (by rw [s9.2]; omega)
    have kS := w.2.2.2.2.2.2.2.2.2 (10 * rr + cc) (by unfold inB; rw [s9.1, s9.2]; omega)
    have z0 : mT s 0 = 0 := by rw [tS]; exact l.z0
    have t8 : mT s (rt 0) = 8 := by rw [tS]; exact c.1.1
    have t111 : mT s (mR σ (rt 0) 2) = 111 := by rw [tS]; exact c.2.1
    have n111 : mN s (mR σ (rt 0) 2) = (Gs 0).1.1.length := by rw [nS]; exact c.2.2.1
    have nR : mN s (mR σ (mR σ (rt 0) 2) rr) = (Gs 0).1.2.length := by rw [rw0.2.1, s9.2]
    have tx1 : mT s x = 1 := by rw [tS]; exact l.1.1
    have iff0 : mR s (mR σ (mR σ (rt 0) 2) rr) cc = 0 ↔ mI r (h + 5) (320 * 40 + (10 * rr + cc)) = 0 := (cS.nul z0).trans kS.nul.symm
    have nx := w.set (rr := rr) (cc := cc) (A := 0) (ct := (vE, [])) (c' := 0) c l.ok l.z l.z0 o.2.2.2 hr (by omega) (Or.inl ⟨rfl, rfl⟩) (Or.inl ⟨rfl, rfl⟩)
    have spx := sp.set (ct := (vE, [])) (j := 10 * rr + cc) (fun p hp => by cases hp)
    have J : ∀ d : Nat, d ≤ 1 → E2 (x1_erase_l32_j62 N x v2 v3 c1 rr cc d n (x1_erase_l32 N x v2 v3 c1 rr K fu) K s) (tw_erase_l71_j98 N h w2 w3 c1 ((rr + 1 : Nat) : Int) ((cc + 1 : Nat) : Int) d n (tw_erase_l71 N h w2 w3 c1 ((rr + 1 : Nat) : Int) Kt fu') Kt r) Φ := by
      intro d hd
      unfold x1_erase_l32_j62 tw_erase_l71_j98 tw_setCell
      rw [eX, a2, tn, tn, aq, n111, nR, show (12800 + 10 * (((rr + 1 : Nat) : Int) - 1) + ((cc + 1 : Nat) : Int) - 1).toNat = 12800 + 10 * rr + cc by omega, show ((n : Int) + (d : Int)) = ((n + d : Nat) : Int) by omega, w32_i (x := ((n + d : Nat) : Int)) (by omega) (by omega), inc32 (by omega), inc32 (by omega)]
      refine E2.lg tx1 (E2.lg t8 (E2.lg t111 (E2.lg (by omega) (E2.lg rw0.1 (E2.lg (Or.inl rfl) (E2.lg (by omega) (E2.ll ?_)))))))
      rw [if_pos (by omega)]
      exact ih (cc + 1) fu fu' (n + d) _ _ _ (by omega) (by omega) (by omega) (by omega) nx spx
    unfold x1_erase_l32 tw_erase_l71 tw_cellAt
    rw [eX, a2, tn, tn, aq, n111, nR, show (320 * (40 : Int) + 10 * (((rr + 1 : Nat) : Int) - 1) + ((cc + 1 : Nat) : Int) - 1).toNat = 320 * 40 + (10 * rr + cc) by omega]
    refine E2.lf (by omega) (E2.lg tx1 (E2.lg t8 (E2.lg t111 (E2.lg (by omega) (E2.lg rw0.1 (E2.lg (by omega) (E2.rf (by omega) ?_)))))))
    rw [if_pos (show 0 ≤ 320 * (40 : Int) + 10 * (((rr + 1 : Nat) : Int) - 1) + ((cc + 1 : Nat) : Int) - 1 ∧ 320 * (40 : Int) + 10 * (((rr + 1 : Nat) : Int) - 1) + ((cc + 1 : Nat) : Int) - 1 < ((39040 : Nat) : Int) by omega), Option.bind_some]
    by_cases e : mR s (mR σ (mR σ (rt 0) 2) rr) cc = 0
    · exact E2.lf (fun y => y e) (E2.rg (iff0.mp e) (J 0 (by decide)))
    · exact E2.lg e (E2.rf (fun y => e (iff0.mpr y)) (J 1 (by decide)))
theorem er_out (hN : 100 ≤ N) (R : Rl x h t nv pa un fs Gs g own rt σ τ) (hK : ∀ (s r : gMem) (S' : Sh) (n : Nat), n ≤ 20000 → Wk h nv σ τ s r (rt 0) (Gs 0) S' → ShP (mI τ h 6) (mI τ h 7) nv S' → E2 (K n s) (Kt n r) Φ) {c0 r1 : Nat} (hr : r1 ≤ (Gs 0).1.1.length) (hc0 : c0 ≤ c1) (hc : c1 ≤ (Gs 0).1.2.length) : ∀ (m rr fu fu' n : Nat) (s r : gMem) (S' : Sh), rr + m = r1 → m < fu → m < fu' → n + 10 * m ≤ 10000 → Wk h nv σ τ s r (rt 0) (Gs 0) S' → ShP (mI τ h 6) (mI τ h 7) nv S' → E2 (x1_erase_l21 N x ((c0 + 1 : Nat) : Int) r1 c1 K fu n rr s) (tw_erase_l62 N h ((c0 + 1 : Nat) : Int) r1 c1 Kt fu' n ((rr + 1 : Nat) : Int) r) Φ := by
  intro m
  induction m with
  | zero =>
    intro rr fu fu' n s r S' h1 h2 h3 h4 w sp
    obtain ⟨fu, rfl⟩ : ∃ j, fu = j + 1 := ⟨fu - 1, by omega⟩
    obtain ⟨fu', rfl⟩ : ∃ j, fu' = j + 1 := ⟨fu' - 1, by omega⟩
    unfold x1_erase_l21 tw_erase_l62
    exact E2.lg (by omega) (E2.rg (by omega) (hK s r S' n (by omega) w sp))
  | succ m ih =>
    intro rr fu fu' n s r S' h1 h2 h3 h4 w sp
    obtain ⟨fu, rfl⟩ : ∃ j, fu = j + 1 := ⟨fu - 1, by omega⟩
    obtain ⟨fu', rfl⟩ : ∃ j, fu' = j + 1 := ⟨fu' - 1, by omega⟩
    have m10 := R.c0.2.1.2.2.2
    have n32 := R.c0.2.1.2.1.2.2.1
    unfold x1_erase_l21 tw_erase_l62
    rw [show w32 (((c0 + 1 : Nat) : Int) - 1) = (c0 : Int) by rw [w32_i (by omega) (by omega)]; omega]
    refine E2.lf (by omega) (E2.rf (by omega) (er_in (B := n + 10) (by omega) R (fun s r S' n' hn w sp => ?_) (rr := rr) (by omega) hc (c1 - c0) c0 N N n s r S' (by omega) (by omega) (by omega) (by omega) w sp))
    rw [inc32 (by omega), inc32 (by omega)]
    exact ih (rr + 1) fu fu' n' s r S' (by omega) (by omega) (by omega) (by omega) w sp
end Er
theorem w32_p1 {v : Int} (h1 : 1 ≤ v) (h2 : v ≤ 1000) : w32 (v - 1) = v - 1 := w32_i (by omega) (by omega)
def cdIA : List (String × Int) := [("java/lang/IndexOutOfBoundsException", 1), ("java/lang/IllegalArgumentException", 2)]
/-- the class looks whether there is such an area -/
theorem c_look {p0 p1 p2 p3 : Int} (l : LYc x σ) (e8 : mR σ x 8 = a) (c : ShC σ a S) (g0 : g32 p0) (g1 : g32 p1) (g2 : g32 p2) (g3 : g32 p3) :
    x1_look x p0 p1 p2 p3 σ = some (if inS S p0 p1 ∧ inS S p2 p3 then (if p2 < p0 ∨ p3 < p1 then (.inr "java/lang/IllegalArgumentException", wX σ 6) else (.inl none, σ)) else (.inr "java/lang/IndexOutOfBoundsException", wX σ 6)) := by
  unfold x1_look
  rw [if_pos l.1.1, e8, if_pos c.1.1, c_hasS c g0 g1, Option.bind_some]
  by_cases a1 : inS S p0 p1
  · rw [if_pos a1, if_neg (by decide), c_hasS c g2 g3, Option.bind_some]
    by_cases a2 : inS S p2 p3
    · rw [if_pos a2, if_pos (by decide), if_pos (show inS S p0 p1 ∧ inS S p2 p3 from ⟨a1, a2⟩)]
      by_cases a3 : p2 < p0
      · rw [if_pos a3, if_pos (show p2 < p0 ∨ p3 < p1 from Or.inl a3)]
      · rw [if_neg a3]
        by_cases a4 : p1 ≤ p3
        · rw [if_pos a4, if_neg (show ¬ (p2 < p0 ∨ p3 < p1) by omega)]
        · rw [if_neg a4, if_pos (show p2 < p0 ∨ p3 < p1 by omega)]
    · rw [if_neg a2, if_neg (by decide), if_neg (show ¬ (inS S p0 p1 ∧ inS S p2 p3) from fun z => a2 z.2)]
  · rw [if_neg a1, if_pos rfl, if_neg (show ¬ (inS S p0 p1 ∧ inS S p2 p3) from fun z => a1 z.1)]
/-- erase -/
theorem op_erase {p0 p1 p2 p3 : Int} (hN : 2000 ≤ N) (R : RL x h t σ τ) (g0 : g32 p0) (g1 : g32 p1) (g2 : g32 p2) (g3 : g32 p3) : E2 (x1_erase N x p0 p1 p2 p3 σ) (tw_erase N h p0 p1 p2 p3 τ) (OpO x h t cdIA σ τ) := by
  obtain ⟨nv, pa, un, fs, Gs, g, own, rt, R⟩ := R
  have l := R.1.1
  have hh := R.1.2.1.1
  obtain ⟨e8, c⟩ := R.c0
  have Rt := R.t0 (v := 0)
  have s0 := Rt.s0
  have i0 : mI (wI τ h 0 0) h 0 = 0 := by rw [mIwI2 ⟨rfl, rfl⟩, w32_i (by omega) (by omega)]
  have m10 := c.1.2.2.2
  have n32 := c.1.2.1.2.2.1
  have hL := c_look l e8 c g0 g1 g2 g3
  unfold x1_erase tw_erase
  refine E2.lg l.1.1 (E2.rl (E2.re (t_cell40 s0) ?_))
  by_cases a1 : inS (Gs 0) p0 p1
  · rw [if_pos a1]
    refine E2.rf (by decide) (E2.re (t_cell40 s0) ?_)
    by_cases a2 : inS (Gs 0) p2 p3
    · rw [if_pos ⟨a1, a2⟩] at hL
      rw [if_pos a2]
      refine E2.rg (by decide) ?_
      by_cases a3 : p2 < p0 ∨ p3 < p1
      · rw [if_pos a3] at hL
        refine E2.le hL ?_
        rw [thrVE]
        by_cases a4 : p2 < p0
        · exact E2.rg a4 (E2.r (OpO.ex R (by decide) (by decide)))
        · exact E2.rf a4 (E2.rf (by omega) (E2.r (OpO.ex R (by decide) (by decide))))
      · rw [if_neg a3] at hL
        refine E2.le hL ?_
        rw [thrV]
        refine E2.rf (by omega) (E2.rg (by omega) ?_)
        obtain ⟨own', rt', fs', r, er, b, eb, b1, R2, b3, b4, b5, b6⟩ := both_step (N := N) (by omega) Rt
        refine E2.le er (E2.re eb ?_)
        unfold inS at a1 a2
        obtain ⟨q0, rfl⟩ : ∃ n : Nat, p0 = ((n + 1 : Nat) : Int) := ⟨(p0 - 1).toNat, by omega⟩
        obtain ⟨q1, rfl⟩ : ∃ n : Nat, p1 = ((n + 1 : Nat) : Int) := ⟨(p1 - 1).toNat, by omega⟩
        obtain ⟨q2, rfl⟩ : ∃ n : Nat, p2 = (n : Int) := ⟨p2.toNat, by omega⟩
        obtain ⟨q3, rfl⟩ : ∃ n : Nat, p3 = (n : Int) := ⟨p3.toNat, by omega⟩
        rw [show w32 (((q0 + 1 : Nat) : Int) - 1) = (q0 : Int) by rw [w32_i (by omega) (by omega)]; omega]
        have g0' : stG pa Gs 0 = Gs 0 := stG_0 pa Gs
        have FIN : ∀ (s r' : gMem) (S' : Sh) (n : Nat), n ≤ 20000 → Wk h nv r b.2 s r' (rt' 0) (stG pa Gs 0) S' → ShP (mI b.2 h 6) (mI b.2 h 7) nv S' → E2 (some ((.inl (some (vI (n : Int))), s) : gR)) (some ((n : Int), r')) (OpO x h t cdIA σ τ) := by
          intro s r' S' n hn w sp
          obtain ⟨R3, K3, X3⟩ := w.fin R2 b5 b6 sp
          have Z := w.1
          refine E2.r ⟨⟨_, _, _, _, _, _, _, _, R3.t1⟩, ⟨(b3.nt hh).tr K3, 0, ?_, ?_, ?_⟩, ((Ex.rf.I (by unfold TwA; omega)).tr (b4.mono (fun a k p => p.ta))).tr X3, Or.inl ⟨n, rfl, rfl, ?_, ⟨by omega, by omega⟩⟩⟩
          · show mI s x 17 = _
            have : mI s x 17 = mI r x 17 := by unfold mI; rw [Z.1]
            rw [this, b3.2.2.1 17 (by decide) (by decide) (by decide)]; omega
          · show mZ s ≤ _; have := b3.2.2.2.2.1; omega
          · show mS s ≤ _; have := b3.2.2.2.2.2; omega
          · show mI r' h 0 = 0
            rw [w.2.2.2.2.1.rI (by omega), b4.rI (fun p => by have := p.out; omega)]; exact i0
        exact er_out (by omega) R2 (K := fun y20 s21 => some (.inl (some (vI y20)), s21)) (Kt := fun y28 s29 => some (y28, s29)) FIN (c0 := q1) (r1 := q2) (c1 := q3) (by rw [g0']; omega) (by omega) (by rw [g0']; omega) (q2 - q0) q0 N N 0 r b.2 (stG pa Gs 0) (by omega) (by omega) (by omega) (by omega) (Wk.rf R2.c0.2 R2.s0) R2.p0
    · rw [if_neg (fun z => a2 z.2)] at hL
      rw [if_neg a2]
      refine E2.le hL ?_
      rw [thrVE]
      exact E2.rf (fun z => z rfl) (E2.r (OpO.ex R (by decide) (by decide)))
  · rw [if_neg (fun z => a1 z.1)] at hL
    rw [if_neg a1]
    refine E2.le hL ?_
    rw [thrVE]
    exact E2.rg rfl (E2.r (OpO.ex R (by decide) (by decide)))
end State12
