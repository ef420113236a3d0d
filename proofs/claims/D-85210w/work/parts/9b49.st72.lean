/-! ===== PHASE 2: two sheets come together: the lines of the other one -/
section State72
variable {N x h u nv pa un fs i t k n p wv B T S1 S2 arr sz : Nat} {σ τ s r s0 r0 s' r' : gMem} {own rt : Nat → Nat} {S : Sh} {Gs : Nat → Sh} {g : Nat → Nat → Vl} {v w m ax : Int} {f f0 : Nat → Int} {l1 l2 : List Int}
theorem nodup_ax (R : Rl x h t nv pa un fs Gs g own rt s r) (hi : rtV nv pa un i) : (axL (Gs i) ax).Nodup := by
  have sp := R.shP hi
  unfold axL; split
  · exact sp.2.1
  · exact sp.1
/-- the lines of the one that follows -/
theorem mg_two {K : Int → gMem → Option (Nat × gMem)} {Kt : gMem → Option gMem} {Φ : Nat × gMem → gMem → Prop} (hN : 2000 ≤ N) (R : Rl x h t nv pa un fs Gs g own rt s0 r0) (ha : ax = 0 ∨ ax = 1) (hw : WvC s0 wv rt B T) (hB : rtV nv pa un B) (hT : rtV nv pa un T) (h12 : (S1 = 0 ∧ S2 = T) ∨ (S1 = T ∧ S2 = 0)) (hsz : (axL (Gs S1) ax).length + (axL (Gs S2) ax).length ≤ sz)
    (hK : ∀ n f s r, MgS h s0 r0 arr sz n f s r → InjF f n → (∀ j, j < n → f j ∈ axL (Gs S1) ax ∨ f j ∈ axL (Gs S2) ax) → E2 (K n s) (Kt r) Φ) :
    ∀ (c k n fu fv : Nat) (f : Nat → Int) (s r : gMem), k + c = (axL (Gs S2) ax).length → c < fu → c < fv → n ≤ (axL (Gs S1) ax).length + k → MgS h s0 r0 arr sz n f s r → InjF f n → (∀ j, j < n → f j ∈ axL (Gs S1) ax ∨ ∃ e, e < k ∧ f j = gl (axL (Gs S2) ax) e) → E2 (x25_marks_l117 N wv ax (rt S1) (axA s0 (rt S2) ax) arr K fu n k s) (tw_comeTogether_l102 N h (tsN fs B) ax (tsN fs S1) (tsN fs S2) Kt fv k r) Φ := by
  obtain ⟨-, n1, n4, -, -, p4, u4⟩ := R.c5
  have h0 : rtV nv pa un 0 := Or.inl rfl
  have hS1 : rtV nv pa un S1 := by rcases h12 with ⟨e, -⟩ | ⟨e, -⟩ <;> rw [e] <;> assumption
  have hS2 : rtV nv pa un S2 := by rcases h12 with ⟨-, e⟩ | ⟨-, e⟩ <;> rw [e] <;> assumption
  have h21 : (S2 = 0 ∧ S1 = T) ∨ (S2 = T ∧ S1 = 0) := by rcases h12 with ⟨e, e'⟩ | ⟨e, e'⟩; exact Or.inr ⟨e', e⟩; exact Or.inl ⟨e', e⟩
  have le1 := R.2.1.len hS1
  have le2 := R.2.1.len hS2
  have lt1 := tsN_lt (fs := fs) hS1 n4 p4 u4
  have lt2 := tsN_lt (fs := fs) hS2 n4 p4 u4
  have ok := R.1.1.ok
  have L0 := axA_ls (ax := ax) (R.shC hS2)
  have alm := axL_le (ax := ax) le2.1 le2.2
  have n32 := L0.2.2.1
  have nd := nodup_ax (ax := ax) R hS2
  intro c
  induction c with
  | zero =>
    intro k n fu fv f s r h1 h2 h3 hn M I hm
    obtain ⟨fu, rfl⟩ : ∃ j, fu = j + 1 := ⟨fu - 1, by omega⟩
    obtain ⟨fv, rfl⟩ : ∃ j, fv = j + 1 := ⟨fv - 1, by omega⟩
    have Rs := M.rl R
    have L := L0.kp M.1 ok (fun f => f)
    unfold x25_marks_l117 tw_comeTogether_l102
    rw [L.2.1, w32_i (by omega) (by omega)]
    exact E2.lg L.1 (E2.lg (by omega) (E2.re ((Rs.shT hS2).axn (by omega)) (E2.rg (by omega) (hK n f s r M I (fun j hj => by
      rcases hm j hj with y | ⟨e, e1, e2⟩
      · exact Or.inl y
      · right; rw [e2]; exact gl_mem (by omega))))))
  | succ c ih =>
    intro k n fu fv f s r h1 h2 h3 hn M I hm
    obtain ⟨fu, rfl⟩ : ∃ j, fu = j + 1 := ⟨fu - 1, by omega⟩
    obtain ⟨fv, rfl⟩ : ∃ j, fv = j + 1 := ⟨fv - 1, by omega⟩
    have Rs := M.rl R
    have L := L0.kp M.1 ok (fun f => f)
    have ws := hw.kp M.1 ok
    have tS := Rs.shT hS2
    have hk : k < (axL (Gs S2) ax).length := by omega
    obtain ⟨m, hm'⟩ : ∃ m, m = gl (axL (Gs S2) ax) k := ⟨_, rfl⟩
    have gm : g32 m := by rw [hm', ← L.2.2.2 k hk]; exact mI_rng _ _ _
    have m2 : 0 ≤ pl (axL (Gs S2) ax) m := by rw [hm', pl_gl nd hk]; omega
    have b1 := pl_ge (axL (Gs S1) ax) m
    have up : ∀ j, j < n → f j ∈ axL (Gs S1) ax ∨ ∃ e, e < k + 1 ∧ f j = gl (axL (Gs S2) ax) e := fun j hj => by
      rcases hm j hj with y | ⟨e, e1, e2⟩
      · exact Or.inl y
      · exact Or.inr ⟨e, by omega, e2⟩
    unfold x25_marks_l117 tw_comeTogether_l102
    rw [L.2.1, w32_i (x := ((axL (Gs S2) ax).length : Int)) (by omega) (by omega), tn, L.2.2.2 k hk, ← hm']
    refine E2.lg L.1 (E2.lf (by omega) (E2.lg (by omega) (E2.le (c_hasX (by omega) (Rs.shC hS1) m) (E2.re (tS.axn (by omega)) (E2.rf (by omega) (E2.re (t_lineAt (by omega) (by omega)) ?_))))))
    rw [tS.axl hk, ← hm']
    refine E2.re (t_axp (Rs.shT hS1) ha (by omega) (by omega) le1.1 le1.2 m) ?_
    unfold x25_marks_l117_j209 tw_comeTogether_l102_j215
    rw [inc32 (i := k) (by omega)]
    by_cases c1 : pl (axL (Gs S1) ax) m = -1
    · rw [if_pos c1]
      refine E2.lf (fun z => z rfl) (E2.rf (by omega) (E2.lg (by omega) (E2.lg ws.1 (E2.cc (both_isIn hN Rs ha ws hB hT h21 m2) (fun a b z => ?_)))))
      obtain ⟨z1, z2⟩ := z
      subst z1
      by_cases e : a = 0
      · exact E2.lf (fun z => z e) (E2.rg e (ih (k + 1) n fu fv f s r (by omega) (by omega) (by omega) (by omega) M I up))
      · have M0 := M
        obtain ⟨-, a1, a2, a3, a4, a5, a6, a7, a8, Y, a9, a10⟩ := M
        have lt : mZ s0 ≤ arr := a1
        have bh := bhF_le (f := f) (n := n) (l := axL (Gs S2) ax) k
        have CB := c_behind (N := N) (by omega) a2 a3 a4 a5 L a6 k N (by omega) (by omega)
        obtain ⟨sC, q1, q2, q3⟩ := c_shiftM (N := N) (v0 := wv) (v2 := rt S1) (v5 := axA s0 (rt S2) ax) (v1 := ax) (v7 := (n : Int)) (v8 := (k : Int)) (p := bhF f n (axL (Gs S2) ax) k) (n := n) (K := fun s40 => if mT s40 (axA s0 (rt S2) ax) = 100 then if 0 ≤ (k : Int) ∧ (k : Int) < (mN s40 (axA s0 (rt S2) ax) : Int) then if mT s40 arr = 100 then if 0 ≤ ((bhF f n (axL (Gs S2) ax) k : Nat) : Int) ∧ ((bhF f n (axL (Gs S2) ax) k : Nat) : Int) < (mN s40 arr : Int) then gLet (wI s40 arr ((bhF f n (axL (Gs S2) ax) k : Nat) : Int).toNat (mI s40 (axA s0 (rt S2) ax) k)) (fun s44 => x25_marks_l117 N wv ax (rt S1) (axA s0 (rt S2) ax) arr K fu (w32 ((n : Int) + 1)) ((k + 1 : Nat) : Int) s44) else none else none else none else none) a2 a3 (show n < sz by omega) a5 (n - bhF f n (axL (Gs S2) ax) k) N s (by omega) Ex.rf (fun k => by rw [if_neg (by omega)]) (by omega)
        rw [show bhF f n (axL (Gs S2) ax) k + (n - bhF f n (axL (Gs S2) ax) k) = n by omega] at q1
        obtain ⟨r', w1, w2, w3, w4⟩ := t_putLine (N := N) (p := bhF f n (axL (Gs S2) ax) k) (m := m) (by omega) a7 bh (by omega) gm
        have nA : axA s0 (rt S2) ax ≠ arr := fun z => by
          have := gOk_lt ok (show mT s0 (axA s0 (rt S2) ax) ≠ 0 by rw [L0.1]; decide)
          omega
        refine E2.lg e (E2.rf e ?_)
        refine E2.le (show x25_behind N arr (n : Int) (axA s0 (rt S2) ax) (k : Int) s = some ((bhF f n (axL (Gs S2) ax) k : Nat) : Int) by
          unfold x25_behind
          rw [w32_i (by omega) (by omega)]; exact CB) ?_
        have TL := fun (Kx : Int → gMem → Option gMem) => t_last (N := N) (K := Kx) (ax := ax) (v2 := (tsN fs B : Nat)) (v5 := (tsN fs S1 : Nat)) (v7 := (k : Int)) (v8 := m) (by omega) tS (by omega) le2.1 le2.2 a7 (by omega) a8 k N (by omega) (by omega)
        rw [show w32 ((k : Int) - 1) = (k : Int) - 1 by rw [w32_i (by omega) (by omega)], TL]
        have sh := q1
        refine (show E2 (x25_marks_l171 N wv ax (rt S1) (axA s0 (rt S2) ax) arr (n : Int) (k : Int) ((bhF f n (axL (Gs S2) ax) k : Nat) : Int) _ N (n : Int) s) _ Φ from ?_)
        rw [sh]
        have neq : ∀ j, j < n → f j ≠ m := fun j hj z => by
          rcases hm j hj with y | ⟨e, e1, e2⟩
          · rw [z] at y; exact (pl_m1.mp c1) y
          · rw [e2, hm'] at z
            have p1 := pl_gl nd (k := e) (by omega)
            have p2 := pl_gl nd hk
            rw [z] at p1; omega
        have LC : mI sC (axA s0 (rt S2) ax) k = m := by rw [q2.rI nA, L.2.2.2 k hk, hm']
        have NXT : E2 (x25_marks_l117 N wv ax (rt S1) (axA s0 (rt S2) ax) arr K fu ((n + 1 : Nat) : Int) ((k + 1 : Nat) : Int) (wI sC arr (bhF f n (axL (Gs S2) ax) k) m)) (tw_comeTogether_l102 N h (tsN fs B) ax (tsN fs S1) (tsN fs S2) Kt fv ((k + 1 : Nat) : Int) r') Φ := by
          unfold g32 at gm
          refine ih (k + 1) (n + 1) fu fv (insF f (bhF f n (axL (Gs S2) ax) k) m) _ r' (by omega) (by omega) (by omega) (by omega) (M0.ins bh (by omega) (q2.I rfl) w2 (fun j hj => ?_) w3 (fun j hj => ?_)) (I.ins bh neq) (insF_mem (Q := fun y => y ∈ axL (Gs S1) ax ∨ ∃ e, e < k + 1 ∧ y = gl (axL (Gs S2) ax) e) bh up (Or.inr ⟨k, by omega, hm'⟩))
          · unfold insF
            by_cases c1 : j = bhF f n (axL (Gs S2) ax) k
            · rw [mIwI2 ⟨rfl, c1⟩, if_neg (by omega), if_pos c1, w32_i (by omega) (by omega)]
            · rw [mIwI1 (fun z => c1 z.2), q3]
              by_cases c2 : j < bhF f n (axL (Gs S2) ax) k
              · rw [if_neg (by omega), if_pos c2]; exact a6 j (by omega)
              · rw [if_pos (by omega), if_neg c2, if_neg c1]; exact a6 (j - 1) (by omega)
          · rw [w4 j hj]
            unfold insF
            by_cases c1 : j < bhF f n (axL (Gs S2) ax) k
            · rw [if_pos c1, if_pos c1]; exact a8 j (by omega)
            · rw [if_neg c1, if_neg c1]
              by_cases c2 : j = bhF f n (axL (Gs S2) ax) k
              · rw [if_pos c2, if_pos c2]
              · rw [if_neg c2, if_neg c2]; exact a8 (j - 1) (by omega)
        refine E2.lg (by rw [q2.rT]; exact L.1) (E2.lg (by rw [q2.rN, L.2.1]; omega) (E2.lg (by rw [q2.rT]; exact a2) (E2.lg (by rw [q2.rN, a3]; omega) (E2.ll ?_))))
        rw [tn, LC, inc32 (by omega)]
        unfold tw_comeTogether_l102_j185
        have lb := lsF_bh (f := f) (n := n) (l := axL (Gs S2) ax) k
        by_cases c3 : lsF f n (axL (Gs S2) ax) k < 0
        · have e0 := lb.1 c3
          refine E2.rf (by omega) ?_
          unfold tw_comeTogether_l102_j210 tw_comeTogether_l102_j215
          rw [e0] at w1
          refine E2.re w1 ?_
          rw [inc32 (by omega)]
          exact NXT
        · obtain ⟨d1, d2, d3⟩ := lb.2 (by omega)
          refine E2.rg (by omega) ?_
          obtain ⟨q, hq⟩ : ∃ q : Nat, lsF f n (axL (Gs S2) ax) k = (q : Int) := ⟨(lsF f n (axL (Gs S2) ax) k).toNat, by omega⟩
          rw [hq]
          rw [hq, tn] at d2 d3
          have tl : tw_lineAt h (tsN fs S2) ax (q : Int) r = some (tLi r h (tsN fs S2) ax q) := t_lineAt (by omega) (by omega)
          refine E2.re tl ?_
          rw [tS.axl (by omega)]
          have lo := t_lineOf (N := N) (m := gl (axL (Gs S2) ax) q) a7 (by omega) a8 n 0 N (by omega) (by omega)
          have pb := plG_b f (gl (axL (Gs S2) ax) q) n
          refine E2.re (show tw_lineOf N h (gl (axL (Gs S2) ax) q) r = some (plG f (gl (axL (Gs S2) ax) q) n 0) from lo) ?_
          rw [show w32 (plG f (gl (axL (Gs S2) ax) q) n 0 + 1) = ((bhF f n (axL (Gs S2) ax) k : Nat) : Int) by rw [w32_i (by omega) (by omega), d3]; omega]
          unfold tw_comeTogether_l102_j210 tw_comeTogether_l102_j215
          refine E2.re w1 ?_
          rw [inc32 (by omega)]
          exact NXT
    · rw [if_neg c1]
      exact E2.lg (by decide) (E2.rg (by omega) (ih (k + 1) n fu fv f s r (by omega) (by omega) (by omega) (by omega) M I up))
/-- the lines of both, on both sides -/
def MkO (h : Nat) (s0 r0 : gMem) (l1 l2 : List Int) (a : Nat × gMem) (b : gMem) : Prop :=
  ∃ n f, Kz (fun _ => False) s0 a.2 ∧ mZ s0 ≤ a.1 ∧ mT a.2 a.1 = 100 ∧ mN a.2 a.1 = n ∧ n ≤ 64 ∧ (∀ k, k < n → mI a.2 a.1 k = f k) ∧ mI b h 100 = (n : Int) ∧ (∀ k, k < n → mI b (h + 53) k = f k) ∧ Ex (PtX h) r0 b ∧ (mZ a.2 ≤ mZ s0 + 2 ∧ mS a.2 ≤ mS s0 + 128) ∧ (∀ y, mZ s0 ≤ y → mT a.2 y = 0 ∨ mT a.2 y = 100) ∧ InjF f n ∧ (∀ k, k < n → f k ∈ l1 ∨ f k ∈ l2) ∧ n ≤ l1.length + l2.length
theorem both_marks (hN : 2000 ≤ N) (R : Rl x h t nv pa un fs Gs g own rt s0 r0) (ha : ax = 0 ∨ ax = 1) (hw : WvC s0 wv rt B T) (hB : rtV nv pa un B) (hT : rtV nv pa un T) (T0 : T ≠ 0) : E2 (x25_marks N wv ax s0) (tw_comeTogether N h (tsN fs T) (tsN fs B) ax r0) (MkO h s0 r0 (axL (Gs 0) ax) (axL (Gs T) ax)) := by
  obtain ⟨-, n1, n4, -, -, p4, u4⟩ := R.c5
  have h0 : rtV nv pa un 0 := Or.inl rfl
  have ok := R.1.1.ok
  have ne : rt T ≠ rt 0 := fun e => T0 (R.1.2.2.2.1.2 T 0 hT h0 e)
  have GO : ∀ S1 S2, ((S1 = 0 ∧ S2 = T) ∨ (S1 = T ∧ S2 = 0)) → E2 (x25_marks_j39 N wv ax (rt S1) (rt S2) s0) (tw_comeTogether_j35 N h (tsN fs B) ax (tsN fs S1) (tsN fs S2) r0) (MkO h s0 r0 (axL (Gs 0) ax) (axL (Gs T) ax)) := by
    intro S1 S2 h12
    have hS1 : rtV nv pa un S1 := by rcases h12 with ⟨e, -⟩ | ⟨e, -⟩ <;> rw [e] <;> assumption
    have hS2 : rtV nv pa un S2 := by rcases h12 with ⟨-, e⟩ | ⟨-, e⟩ <;> rw [e] <;> assumption
    have c1 := R.shC hS1
    have c2 := R.shC hS2
    have L1 := axA_ls (ax := ax) c1
    have L2 := axA_ls (ax := ax) c2
    have n32 := L1.2.2.1
    have n32' := L2.2.2.1
    unfold x25_marks_j39 tw_comeTogether_j35
    refine E2.lg c1.1.1 (E2.le (c_mk9 c1) (E2.lg c2.1.1 (E2.le (c_mk9 c2) (E2.lg L1.1 (E2.lg L2.1 ?_)))))
    rw [L1.2.1, L2.2.1, show w32 (((axL (Gs S1) ax).length : Int) + ((axL (Gs S2) ax).length : Int)) = (((axL (Gs S1) ax).length + (axL (Gs S2) ax).length : Nat) : Int) by rw [w32_i (by omega) (by omega)]; omega, tn]
    obtain ⟨sz, hsz⟩ : ∃ sz, sz = (axL (Gs S1) ax).length + (axL (Gs S2) ax).length := ⟨_, rfl⟩
    rw [← hsz]
    refine E2.lg (by omega) (E2.ll (E2.rl ?_))
    have K0 : Kz (fun _ => False) s0 (wN s0 100 sz) := (Kz.rf ok).wN
    have tz : mT (wN s0 100 sz) (mZ s0) = 100 := by rw [mT_wN, if_pos rfl]
    have nz : mN (wN s0 100 sz) (mZ s0) = sz := by rw [mN_wN, if_pos rfl]
    have M0 : MgS h s0 r0 (mZ s0) sz 0 (fun _ => 0) (wN s0 100 sz) (wI r0 h 100 0) := ⟨K0, Nat.le_refl _, tz, nz, Nat.zero_le _, by omega, fun k hk => absurd hk (Nat.not_lt_zero _), by rw [mIwI2 ⟨rfl, rfl⟩, w32_i (by omega) (by omega)]; rfl, fun k hk => absurd hk (Nat.not_lt_zero _), Ex.rf.I (Or.inl ⟨rfl, rfl⟩), ⟨rfl, rfl⟩, fun a ha => by
      rw [mT_wN]
      by_cases y : a = mZ s0
      · rw [if_pos y]; exact Or.inr rfl
      · rw [if_neg y]; exact Or.inl (ok a ha)⟩
    refine mg_one (sz := sz) (arr := mZ s0) (B := B) (T := T) (v5 := axA s0 (rt S2) ax) hN R ha hw hB hT h12 (by omega) (fun n f s r M I hm hn => ?_) (axL (Gs S1) ax).length 0 0 N N (fun _ => 0) _ _ (by omega) (by omega) (by omega) (Nat.le_refl _) M0 (fun a b ha => absurd ha (Nat.not_lt_zero _)) (fun j hj => absurd hj (Nat.not_lt_zero _))
    refine mg_two (sz := sz) (arr := mZ s0) hN R ha hw hB hT h12 (by omega) (fun n f s r M I hm => ?_) (axL (Gs S2) ax).length 0 n N N f s r (by omega) (by omega) (by omega) (by omega) M I (fun j hj => Or.inl (hm j hj))
    obtain ⟨K, a1, a2, a3, a4, a5, a6, a7, a8, Y, a9, a10⟩ := M
    have lz : mZ s0 < mZ s := by omega
    have ts : mT (wN s 100 n) (mZ s0) = 100 := by rw [mT_wN, if_neg (by omega)]; exact a2
    have ns : mN (wN s 100 n) (mZ s0) = sz := by rw [mN_wN, if_neg (by omega)]; exact a3
    have nn : mN (wN s 100 n) (mZ s) = n := by rw [mN_wN, if_pos rfl]
    rw [tn]
    refine E2.lg (by omega) (E2.ll (E2.lg ts (E2.lg (by rw [ns, nn]; omega) (E2.ll (E2.r ⟨n, f, (K.wN).wCI (Or.inl (by omega)), by show mZ s0 ≤ mZ s; omega, ?_, ?_, by omega, fun k hk => ?_, a7, a8, Y, ⟨?_, ?_⟩, fun y hy => ?_, I, ?_, ?_⟩)))))
    · show mT (wN s 100 n) (mZ s) = 100
      rw [mT_wN, if_pos rfl]
    · show mN (wN s 100 n) (mZ s) = n
      exact nn
    · show mI (wCI (wN s 100 n) (mZ s0) (0 : Int).toNat (mZ s) (0 : Int).toNat n) (mZ s) k = f k
      rw [mI_wCI, if_pos ⟨rfl, Nat.zero_le _, by show k < 0 + n; omega⟩]
      show mI (wN s 100 n) (mZ s0) (0 + (k - 0)) = f k
      rw [mI_wN, if_neg (by omega), show 0 + (k - 0) = k by omega]
      exact a6 k hk
    · show mZ s + 1 ≤ _; omega
    · show mS s + n ≤ _; omega
    · show mT (wN s 100 n) y = 0 ∨ mT (wN s 100 n) y = 100
      rw [mT_wN]
      by_cases z : y = mZ s
      · rw [if_pos z]; exact Or.inr rfl
      · rw [if_neg z]; exact a10 y hy
    · intro k hk
      rcases h12 with ⟨e, e'⟩ | ⟨e, e'⟩
      · have := hm k hk; rw [e, e'] at this; exact this
      · have := hm k hk; rw [e, e'] at this; exact this.symm
    · rcases h12 with ⟨e, e'⟩ | ⟨e, e'⟩
      · rw [e, e'] at hsz; omega
      · rw [e, e'] at hsz; omega
  unfold x25_marks tw_comeTogether
  refine E2.lg hw.1 (E2.cc (both_inOrder hN R ha hw hB hT) (fun a b z => ?_))
  obtain ⟨z1, z2⟩ := z
  subst z1
  unfold x25_marks_j19 tw_comeTogether_j22
  rw [hw.2.2.1, hw.2.2.2]
  by_cases e : a = 0
  · exact E2.lg e (E2.rg e (E2.lg hw.1 (E2.lf (fun z => z rfl) (E2.rg e (GO 0 T (Or.inl ⟨rfl, rfl⟩))))))
  · exact E2.lf e (E2.rf e (E2.lg hw.1 (E2.lg ne (E2.rf e (GO T 0 (Or.inr ⟨rfl, rfl⟩))))))
end State72
