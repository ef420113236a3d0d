/-! ===== PHASE 2: values: all that are wanted; the class's working sheet ===== -/
section State22
variable {N x h u b nv nv' pa un fs i t s k n : Nat} {σ σ' τ τ' τ'' r : gMem} {P : Nat → Nat → Prop} {own rt : Nat → Nat} {S : Sh} {Gs : Nat → Sh} {g : Nat → Nat → Vl}
theorem Vp.of {j a m : Nat} (p : Sv h k a m ∨ (a = h + 32 ∧ m = j)) : Vp h a m := by
  rcases p with p | p
  · exact p.vp
  · unfold Vp; omega
theorem t_need_l {v1 : Int} {K : gMem → Option gMem} {Φ : gMem → Prop} (hN : 2000 ≤ N) (hn : n ≤ nv) (n4 : nv ≤ 40) (hK : ∀ r, Rl x h t nv pa un fs Gs g own rt σ r → Ex (Vp h) τ r → (∀ j, j < n → mI r (h + 32) j ≠ 0) → Ev (K r) Φ) : ∀ (m j f : Nat) (r : gMem), j + m = n → m < f → Rl x h t nv pa un fs Gs g own rt σ r → Ex (Vp h) τ r → (∀ j', j' < j → mI r (h + 32) j' ≠ 0) → Ev (tw_needValues_l19 N h v1 n K f j r) Φ := by
  intro m
  induction m with
  | zero =>
    intro j f r h1 h2 R X V
    obtain ⟨f, rfl⟩ : ∃ j, f = j + 1 := ⟨f - 1, by omega⟩
    unfold tw_needValues_l19
    exact Ev.g (by omega) (hK r R X (fun j' hj => V j' (by omega)))
  | succ m ih =>
    intro j f r h1 h2 R X V
    obtain ⟨f, rfl⟩ : ∃ j, f = j + 1 := ⟨f - 1, by omega⟩
    unfold tw_needValues_l19
    unfold tw_needValues_l19_j45
    rw [tn, inc32 (by omega)]
    refine Ev.f (by omega) (Ev.g (by omega) ?_)
    by_cases c : mI r (h + 32) j = 0
    · refine Ev.f (fun z => z c) (Ev.c (t_val_v hN R (by omega) V) (fun r' _ z => Ev.g (by omega) (Ev.l (ih (j + 1) f _ (by omega) (by omega) z.1 (X.tr (z.2.mono (fun a m p => Vp.of p))) (fun j' hj => ?_)))))
      by_cases e : j' = j
      · rw [e, mIwI2 ⟨rfl, rfl⟩, w32_i (by omega) (by omega)]; decide
      · rw [z.2.rI (by unfold Sv Pv Hg; omega)]; exact V j' (by omega)
    · refine Ev.g c (ih (j + 1) f r (by omega) (by omega) R X (fun j' hj => ?_))
      by_cases e : j' = j
      · rw [e]; exact c
      · exact V j' (by omega)
theorem tsN0 : tsN fs 0 = 40 := rfl
/-- the twin's values of a sheet that is asked for -/
theorem t_need (hN : 2000 ≤ N) (R : Rl x h t nv pa un fs Gs g own rt σ τ) (hs : s = 40 ∨ s < nv) : Ev (tw_needValues N h s τ) (fun r => Rl x h t nv pa un fs Gs g own rt σ r ∧ Ex (Vp h) τ r ∧ (s = 40 → mI r h 65 ≠ 0) ∧ (s ≠ 40 → mI r (h + 32) s ≠ 0)) := by
  obtain ⟨c5, n1, n4, pu, c8, p4, u4⟩ := R.c5
  unfold tw_needValues tw_needValues_j16
  by_cases e : s = 40
  · subst e
    rw [c8]
    refine Ev.f (by decide) (t_need_l (τ := τ) (n := nv) hN (Nat.le_refl _) n4 (fun r R X V => ?_) nv 0 N τ (by omega) (by omega) R Ex.rf (fun j' hj => by omega))
    refine Ev.f (by decide) ?_
    by_cases c : mI r h 65 = 0
    · refine Ev.f (fun z => z c) ?_
      have v0 : rtV nv pa un 0 := Or.inl rfl
      have A := t_val (N := N) hN R v0 (by rw [tsN0]; decide) (by rw [tsN0]; unfold Vi; rw [if_neg (by decide)]; omega)
      rw [tsN0] at A
      refine Ev.c A (fun r1 _ z => Ev.l (Ev.r ?_))
      obtain ⟨X1, tb, vc, gx, g', v1, v2, v3, iv⟩ := z
      have vi : Vi nv 0 = (nv : Int) := by unfold Vi; rw [if_neg (by decide)]
      rw [vi] at v3
      have XW : Ex (fun a j => a = h ∧ j = 65) r1 (wI r1 h 65 1) := Ex.rf.I ⟨rfl, rfl⟩
      have XX : Ex (fun a j => Sv h 40 a j ∨ (a = h ∧ j = 65)) r (wI r1 h 65 1) := (X1.mono (fun a j p => Or.inl p)).I (Or.inr ⟨rfl, rfl⟩)
      have toW : ∀ {c v}, VC r1 h c v → VC (wI r1 h 65 1) h c v := fun hv => VG.ex XW hv (by omega) (by omega) (by omega) (fun j hj => by omega)
      have q8 := R.2.2.2.2.2
      have toX : ∀ {c v}, c < 12800 → VC r h c v → VC (wI r1 h 65 1) h c v := fun hc hv => VG.ex XX hv (by unfold Sv Pv Hg; omega) (by unfold Sv Pv Hg; omega) (by unfold Sv Pv Hg; omega) (fun j hj => by unfold Sv Pv Hg; omega)
      have sP := R.shP v0
      rw [vi] at sP
      have sh0 : ShT r h nv 40 (Gs 0) := R.s0
      have ls0 := sh0.ls
      have len := R.2.1.len v0
      have sm : shn 40 (-1) = 40 := rfl
      have f0 : (tLs r h (shn 40 (-1)) 0, tLs r h (shn 40 (-1)) 1) = (Gs 0).1 := by rw [sm, ls0.1, ls0.2]
      have fv : ∀ ver : Int, 0 ≤ ver → ver < nv → (tLs r h (shn 40 ver) 0, tLs r h (shn 40 ver) 1) = (Gs (81 + ver.toNat)).1 := fun ver h1 h2 => by
        have a := (R.shT (show rtV nv pa un (81 + ver.toNat) by unfold rtV; omega)).ls
        rw [tsN_k] at a
        have e : shn 40 ver = ver.toNat := by unfold shn; rw [if_neg (by omega)]
        rw [e, a.1, a.2]
      have IV : IsV Gs g 0 g' := by
        unfold IsV
        refine IsVal.cg (V := (nv : Int)) (f := fun ver => (tLs r h (shn 40 ver) 0, tLs r h (shn 40 ver) 1)) (g := gx) (fun c hc ne => ⟨(sh0.2.2.2.2 c hc).wf ne, sP.2.2.2.2.2.2 c hc⟩) (by have fs2 := congrArg Prod.snd f0; (try dsimp only at fs2 ⊢); rw [fs2]; exact len.2) (by (try dsimp only); rw [if_pos rfl]; exact f0) (fun ver h1 h2 => by (try dsimp only); rw [if_neg (by omega)]; exact fv ver h1 h2) (fun ver h1 h2 => by
          (try dsimp only)
          have fs2 := congrArg Prod.snd (fv ver h1 h2)
          (try dsimp only at fs2)
          rw [fs2]
          exact (R.2.1.len (show rtV nv pa un (81 + ver.toNat) by unfold rtV; omega)).2) (fun ver h1 h2 c hc => by
          (try dsimp only at hc ⊢)
          have fs1 := congrArg Prod.fst (fv ver h1 h2)
          have fs2 := congrArg Prod.snd (fv ver h1 h2)
          (try dsimp only at fs1 fs2)
          rw [fs1, fs2] at hc
          rw [if_neg (by omega)]
          have a := v3 ver h1 h2 c (by have := (R.2.1.len (show rtV nv pa un (81 + ver.toNat) by unfold rtV; omega)); unfold inB at hc; omega)
          have b := q8.1 ver.toNat (by omega) (V _ (by omega)) c hc
          exact VC.uniq a b) (by (try dsimp only); rw [if_pos rfl]; exact v2) iv
      refine ⟨R.vp XX (fun a j p => ?_) ?_ (fun c hc => ?_) ⟨fun j hj z c hc => ?_, fun j h1 h2 => ?_, fun z => ⟨g', IV, fun c hc => ?_⟩⟩, X.tr (XX.mono (fun a j p => ?_)), fun _ => ?_, fun z => absurd rfl z⟩
      · rcases p with p | p
        · exact p.vp
        · unfold Vp; omega
      · obtain ⟨b1, b2, b3, b4⟩ := tb
        exact ⟨fun i => by rw [XW.rI (by omega)]; exact b1 i, fun i => by rw [XW.rI (by omega)]; exact b2 i, fun i => by rw [XW.rI (by omega)]; exact b3 i, fun i => by rw [XW.rI (by omega)]; exact b4 i⟩
      · obtain ⟨v, hv⟩ := vc c hc
        exact ⟨v, toW hv⟩
      · rw [XX.rI (show ¬ (Sv h 40 (h + 32) j ∨ (h + 32 = h ∧ j = 65)) by unfold Sv Pv Hg; omega)] at z
        have lj := R.2.1.len (show rtV nv pa un (81 + j) by unfold rtV; omega)
        have c320 : c < 320 := by unfold inB at hc; omega
        exact toX (by omega) (q8.1 j hj z c hc)
      · rw [XX.rI (by unfold Sv Pv Hg; omega)]; exact q8.2.1 j h1 h2
      · have c320 : c < 320 := by unfold inB at hc; omega
        exact toW (v1 c c320)
      · rcases p with p | p
        · exact p.vp
        · unfold Vp; omega
      · rw [mIwI2 ⟨rfl, rfl⟩, w32_i (by omega) (by omega)]; decide
    · exact Ev.g c (Ev.r ⟨R, X, fun _ => c, fun z => absurd rfl z⟩)
  · have hsn : s < nv := hs.resolve_left e
    rw [inc32 (by omega)]
    refine Ev.g (by omega) (t_need_l (τ := τ) (n := s + 1) hN (by omega) n4 (fun r R X V => ?_) (s + 1) 0 N τ (by omega) (by omega) R Ex.rf (fun j' hj => by omega))
    exact Ev.g (by omega) (Ev.r ⟨R, X, fun z => absurd z e, fun _ => V s (by omega)⟩)
/-- what valuing the class's working sheet may write -/
def RdyW (x a : Nat) : Prop := a = x ∨ RqW x a
theorem rqW_t (l : LYc x σ) {V : Nat → Vl} (vv : VV σ (x + 4) V) {a : Nat} (w : RqW x a) : (mT σ a = 3 ∨ mT σ a = 4 ∨ mT σ a = 5 ∨ (100 ≤ mT σ a ∧ mT σ a ≤ 103) ∨ mT σ a = 107) ∧ (mT σ a = 102 → mT σ (a - 1) ≠ 12) := by
  obtain ⟨q1, q2, q3, q4, q5, q6, q7, q8, q9, q10, q11, -⟩ := l.2.1.1
  obtain ⟨k0, -, k1, -, k2, k3, k4, -⟩ := l.2.1.2.1
  obtain ⟨v0, -, -, -, -, v1, -, v2, -, v3, -, v4, -, -⟩ := vv
  rcases w with w | w
  · have v1' : mT σ (x + 5) = 102 := v1
    have v2' : mT σ (x + 6) = 102 := v2
    have v3' : mT σ (x + 7) = 102 := v3
    have v4' : mT σ (x + 8) = 101 := v4
    rcases (by omega : a = x + 5 ∨ a = x + 6 ∨ a = x + 7 ∨ a = x + 8) with e | e | e | e <;> subst e
    · exact ⟨by omega, fun _ => by rw [show x + 5 - 1 = x + 4 by omega, v0]; decide⟩
    · exact ⟨by omega, fun _ => by rw [show x + 6 - 1 = x + 5 by omega, v1']; decide⟩
    · exact ⟨by omega, fun _ => by rw [show x + 7 - 1 = x + 6 by omega, v2']; decide⟩
    · exact ⟨by omega, fun z => by omega⟩
  · by_cases c : a ≤ x + 24
    · have k1' : mT σ (x + 15) = 101 := k1
      have k2' : mT σ (x + 16) = 100 := k2 2 (by omega) (by omega)
      have k3' : mT σ (x + 17) = 100 := k2 3 (by omega) (by omega)
      have k4' : mT σ (x + 18) = 100 := k2 4 (by omega) (by omega)
      have k5' : mT σ (x + 19) = 100 := k2 5 (by omega) (by omega)
      have k6' : mT σ (x + 20) = 100 := k2 6 (by omega) (by omega)
      have k7' : mT σ (x + 21) = 100 := k2 7 (by omega) (by omega)
      have k8' : mT σ (x + 22) = 103 := k3
      have k9' : mT σ (x + 23) = 103 := k4
      rcases (by omega : a = x + 13 ∨ a = x + 14 ∨ a = x + 15 ∨ a = x + 16 ∨ a = x + 17 ∨ a = x + 18 ∨ a = x + 19 ∨ a = x + 20 ∨ a = x + 21 ∨ a = x + 22 ∨ a = x + 23 ∨ a = x + 24) with e | e | e | e | e | e | e | e | e | e | e | e <;> subst e <;> exact ⟨by omega, fun z => by omega⟩
    · have ws : ∀ j, j < 702 → WS σ (x + 25 + 2 * j) := fun j hj => by
        by_cases j0 : j = 0
        · rw [j0]; exact q9
        · by_cases j1 : j = 1
          · rw [j1]; exact q10
          · have := q11 (j - 2) (by omega)
            rwa [show x + 29 + 2 * (j - 2) = x + 25 + 2 * j by omega] at this
      have w' := ws ((a - (x + 25)) / 2) (by omega)
      rcases (by omega : a = x + 25 + 2 * ((a - (x + 25)) / 2) ∨ a = x + 25 + 2 * ((a - (x + 25)) / 2) + 1) with e | e
      · have t := w'.1
        rw [← e] at t
        exact ⟨by omega, fun z => by omega⟩
      · have t := w'.2.2.1
        have t0 := w'.1
        rw [← e] at t
        exact ⟨by omega, fun _ => by rw [show a - 1 = x + 25 + 2 * ((a - (x + 25)) / 2) by omega, t0]; decide⟩
theorem LYc.rq (l : LYc x σ) {V : Nat → Vl} (vv : VV σ (x + 4) V) (K : Kz (RqW x) σ r) (wl : WL r x ∧ LK r (x + 14) ∧ mR r (x + 13) 1 = x + 14) (zz : mZ r = mZ σ) : LYc x r := by
  have z := l.z
  have z0 := l.z0
  have ok := l.ok
  have kc := l.kc
  have np := l.np
  have wt : ∀ a, RqW x a → mT σ a < 90 ∨ 100 ≤ mT σ a := fun a w => by have := (rqW_t l vv w).1; omega
  have tg : ∀ a, RqW x a → mT σ a ≠ 18 := fun a w => by have := (rqW_t l vv w).1; omega
  obtain ⟨⟨a1, a2, a3⟩, -, ⟨c1, c2, c3, c4, c5⟩, ⟨d1, d2, d3⟩, ⟨e1, e2⟩, -⟩ := l
  have T : ∀ {a t : Nat}, mT σ a = t → t ≠ 0 → mT r a = t := fun {a t} e n => by rw [K.tag ok (by rw [e]; exact n)]; exact e
  have L : ∀ {a t n : Nat}, mT σ a = t → t ≠ 0 → mN σ a = n → mN r a = n := fun {a t n} e m q => by rw [K.len ok (by rw [e]; exact m)]; exact q
  have R : ∀ {a j v : Nat}, mT σ a ≠ 0 → ¬ RqW x a → mR σ a j = v → mR r a j = v := fun {a j v} e w q => by rw [K.rR ok e w]; exact q
  have w0 : ¬ RqW x 0 := by unfold RqW; omega
  have e0 : ∀ k, mR r 0 k = mR σ 0 k := fun k => (K.2.2.2 0 z w0 k).2.2
  have ws : ∀ {w : Nat}, x + 1429 ≤ w → WS σ w → WS r w := fun {w} hw q => ⟨T q.1 (by decide), R (by rw [q.1]; decide) (by unfold RqW; omega) q.2.1, T q.2.2.1 (by decide), L q.2.2.1 (by decide) q.2.2.2⟩
  refine ⟨⟨T a1 (by decide), fun q hq => R (by rw [a1]; decide) (by unfold RqW; omega) (a2 q hq), fun q hq => ?_⟩, wl, ⟨T c1 (by decide), R (by rw [c1]; decide) (by unfold RqW; omega) c2, R (by rw [c1]; decide) (by unfold RqW; omega) c3, R (by rw [c1]; decide) (by unfold RqW; omega) c4, fun k hk => ?_⟩, ⟨T d1 (by decide), R (by rw [d1]; decide) (by unfold RqW; omega) d2, R (by rw [d1]; decide) (by unfold RqW; omega) d3⟩, ⟨ws (by omega) e1, ws (by omega) e2⟩, kc.kp K ok z w0 wt, K.ok, by omega, by rw [(K.2.2.1 0 z).1]; exact z0, fun q ht => ?_⟩
  · have t := a3 q hq
    have n0 : ∀ q ∈ fxT, q.2.1 ≠ 0 := by decide
    exact ⟨T t.1 (n0 q hq), L t.1 (n0 q hq) t.2⟩
  · rw [e0]
    exact R (by rw [(a3 (1431, 109, 18) (by decide)).1]; decide) (by unfold RqW; omega) (c5 k hk)
  · have lq : q < mZ σ := by
      have := gOk_lt K.ok (a := q) (by omega)
      omega
    have tq : mT σ q = 18 := by rw [← (K.2.2.1 q lq).1]; exact ht
    have nw : ¬ RqW x q := fun w => by have := tg q w; omega
    rw [K.rR ok (by omega) nw 1]
    exact np q tq
/-- the class's working sheet is valued -/
theorem Rl.rdy (hN : 200000 ≤ N) (R : Rl x h t nv pa un fs Gs g own rt σ τ) : Ev (x1_ready N x σ) (fun a => a.1 = x + 4 ∧ Rl x h t nv pa un fs Gs g own rt a.2 τ ∧ Kz (RdyW x) σ a.2 ∧ mZ a.2 = mZ σ ∧ mS a.2 = mS σ ∧ (∀ j, j ≠ 10 → mI a.2 x j = mI σ x j) ∧ mI a.2 x 10 ≠ 0) := by
  have l := R.1.1
  have hh := R.1.2.1.1
  obtain ⟨V, vv⟩ := R.1.2.2.2.2.2.2
  have e9 := l.R (9, 4) (by decide)
  have e23 := l.R (23, 13) (by decide)
  (try dsimp only at e9 e23)
  have tg := fun a (w : RqW x a) => rqW_t l vv w
  unfold x1_ready
  refine Ev.g l.1.1 ?_
  have FIN : ∀ m, Kz (RqW x) σ m → mR m x = mR σ x → (∀ j, mI m x j = mI σ x j) → LYc x m → mZ m = mZ σ → mS m = mS σ → (∃ V, VV m (x + 4) V ∧ IsV Gs g 0 V) → (mR (wI m x 10 1) x 9 = x + 4) ∧ Rl x h t nv pa un fs Gs g own rt (wI m x 10 1) τ ∧ Kz (RdyW x) σ (wI m x 10 1) ∧ mZ (wI m x 10 1) = mZ σ ∧ mS (wI m x 10 1) = mS σ ∧ (∀ j, j ≠ 10 → mI (wI m x 10 1) x j = mI σ x j) ∧ mI (wI m x 10 1) x 10 ≠ 0 := by
    intro m K eR eI ly zz ss hv
    obtain ⟨V', v1, v2⟩ := hv
    have X : Ex (fun a k => a = x ∧ k = 10) m (wI m x 10 1) := Ex.rf.I ⟨rfl, rfl⟩
    obtain ⟨K2, ly2, -⟩ := ly.int X (fun a k p => Or.inl p.1)
    have KK : Kz (RdyW x) σ (wI m x 10 1) := (K.mono (fun a w => Or.inr w)).wI (Or.inr (Or.inl rfl))
    have wn : WN σ (RdyW x) := by
      refine ⟨fun w => ?_, fun a w => ?_⟩
      · rcases w with w | w
        · have := l.1.1; rw [← w, l.z0] at this; omega
        · unfold RqW at w; omega
      · rcases w with w | w
        · rw [w, l.1.1]; omega
        · have := tg a w; exact ⟨by omega, by omega, this.2⟩
    have vv2 : VV (wI m x 10 1) (x + 4) V' := v1.kp K2 ly.ok (fun i hi => by omega)
    have ei : ∀ j, j ≠ 10 → mI (wI m x 10 1) x j = mI σ x j := fun j hj => by rw [X.rI (by omega)]; exact eI j
    have i10 : mI (wI m x 10 1) x 10 = 1 := by rw [mIwI2 ⟨rfl, rfl⟩, w32_i (by omega) (by omega)]
    have k1 : ∀ k, mI (wI m x 10 1) (x + 1) k = mI σ (x + 1) k := fun k => KK.rI l.ok (by rw [(l.T (1, 102, 400) (by decide)).1]; decide) (by unfold RdyW RqW; omega) k
    refine ⟨?_, R.upd KK wn (fun a w => by unfold RdyW RqW at w; unfold OutS; omega) (by unfold RdyW RqW; omega) ly2 ?_ (fun j hj => ei j (by omega)) ⟨V', vv2⟩ ⟨R.2.2.2.2.1.1, fun _ => ⟨V', vv2, v2⟩⟩ (Ex.rf (P := fun _ _ => False)) (fun a k p => p.elim) ?_ ?_, KK, zz, ss, ei, by rw [i10]; decide⟩
    · rw [mR_wI, eR]; exact e9
    · funext j
      rw [mR_wI, eR]
    · obtain ⟨n, b1, b2, b3, b4⟩ := R.2.2.1.1
      exact ⟨n, b1, by rw [ei 1 (by decide)]; exact b2, b3, fun k hk => by rw [k1]; exact b4 k hk⟩
    · have := R.2.2.1.2.1
      unfold Rfl at this ⊢
      rw [ei 2 (by decide), ei 3 (by decide)]; exact this
  by_cases c : mI σ x 10 = 0
  · refine Ev.f (fun z => z c) ?_
    obtain ⟨c5, n1, n4, pu, c8, p4, u4⟩ := R.c5
    have v0 : rtV nv pa un 0 := Or.inl rfl
    have sP := R.shP v0
    have vi : Vi nv 0 = (nv : Int) := by unfold Vi; rw [if_neg (by decide)]
    rw [vi] at sP
    rw [e23, R.c0.1, e9]
    refine Ev.g l.2.1.1.1 (Ev.c (c_reckonS (nv := nv) (f := fun ver : Int => if ver = -1 then (Gs 0).1 else (Gs (81 + ver.toNat)).1) (g := fun ver : Int => g ver.toNat) hN l.2.1.1 l.2.1.2.1 l.2.1.2.2 vv n4 l.kc.ks l.kc.ck l.kc.kn (fun ver h1 h2 => ?_) R.c0.2 (if_pos rfl) l.ok l.z l.z0 (fun b hb => ((R.1.2.2.2.1.1 0 v0).2.2 b hb).fa hh) (fun k hk _ => sP.2.2.2.2.2.2 k hk)) (fun r _ z => ?_))
    · have vk : rtV nv pa un (81 + ver.toNat) := by unfold rtV; omega
      have w := R.ver (k := ver.toNat) (by omega)
      have vc := R.1.2.2.2.2.2.1 ver.toNat (by omega)
      have sh := R.1.2.2.2.1.1 _ vk
      rw [w.2, if_neg (show ¬ ver = -1 by omega)]
      have o := vc.2.2.2 0 (by decide)
      refine ⟨w.1, sh.1.1, by unfold OutS at o; omega, vc.2.2.1, (sh.2.2 _ (Or.inl rfl)).fa hh, (sh.2.2 _ (Or.inr (Or.inl rfl))).fa hh, (sh.2.2 _ (Or.inr (Or.inr (Or.inl rfl)))).fa hh⟩
    · obtain ⟨K, wl, zz, ss, V', v1, v2⟩ := z
      have ly := l.rq vv K wl zz
      have lx : x < mZ σ := gOk_lt l.ok (by rw [l.1.1]; decide)
      have nx : ¬ RqW x x := by unfold RqW; omega
      obtain ⟨f1, f2, f3, f4, f5, f6, f7⟩ := FIN r K (funext fun j => (K.2.2.2 x lx nx j).2.2) (fun j => (K.2.2.2 x lx nx j).1) ly zz ss ⟨V', v1, v2⟩
      exact Ev.l (Ev.r ⟨f1, f2, f3, f4, f5, f6, f7⟩)
  · refine Ev.g c (Ev.l (Ev.r ?_))
    exact FIN σ (Kz.rf l.ok) rfl (fun _ => rfl) l rfl rfl (R.2.2.2.2.1.2 c)
end State22
