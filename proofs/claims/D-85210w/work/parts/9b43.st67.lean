/-! ===== PHASE 2: the act copy: the step; a cell is copied ===== -/
section State67
variable {N x h s0 t u nv nv' pa un fs i j k q0 q1 u0 u1 C Rr kp mv M0 : Nat} {σ σ' s τ τ' τ'' r f m sB rB : gMem} {P : Nat → Nat → Prop} {W : Nat → Prop} {own own' rt rt' : Nat → Nat} {S S' S0 : Sh} {Gs Gs' : Nat → Sh} {g : Nat → Nat → Vl} {a A : Nat} {ct : Ct} {fl : Int → List Int × List Int} {dr dc : Int}
theorem wI_back {v : Int} : wI (wI σ a k v) a k (mI σ a k) = σ := by
  have e : ∀ b j, (wI (wI σ a k v) a k (mI σ a k)).1 b j = σ.1 b j := fun b j => by
    show (if b = a ∧ j = k then Int32.ofInt (mI σ a k) else (if b = a ∧ j = k then Int32.ofInt v else σ.1 b j)) = σ.1 b j
    by_cases c : b = a ∧ j = k
    · rw [if_pos c, c.1, c.2]; exact Int32.ofInt_toInt _
    · rw [if_neg c, if_neg c]
  show ((wI (wI σ a k v) a k (mI σ a k)).1, σ.2) = σ
  rw [show (wI (wI σ a k v) a k (mI σ a k)).1 = σ.1 from funext fun b => funext fun j => e b j]
theorem RCl.w17 {v : Int} (R : RCl x h nv pa un Gs g own rt σ) : RCl x h nv pa un Gs g own rt (wI σ x 17 v) := by
  have l := R.1
  have X : Ex (fun a k => a = x ∧ k = 17) σ (wI σ x 17 v) := Ex.rf.I ⟨rfl, rfl⟩
  obtain ⟨K, ly, wn⟩ := l.int X (fun a k p => Or.inl p.1)
  obtain ⟨V, hV⟩ := R.2.2.2.2.2.2
  have hh := R.2.1.1
  exact R.kp K wn (fun a w => by unfold OutS; omega) (by omega) ly (by rw [X.rR]) ⟨X.rI (by omega), X.rI (by omega), X.rI (by omega)⟩ ⟨V, hV.kp K l.ok (fun i hi => by omega)⟩
theorem RCl.u17 {v : Int} (R : RCl x h nv pa un Gs g own rt (wI σ x 17 v)) : RCl x h nv pa un Gs g own rt σ := by
  have := RCl.w17 (v := mI σ x 17) R
  rw [wI_back] at this; exact this
theorem LYc.w17 {v : Int} (l : LYc x σ) : LYc x (wI σ x 17 v) := by
  have X : Ex (fun a k => a = x ∧ k = 17) σ (wI σ x 17 v) := Ex.rf.I ⟨rfl, rfl⟩
  exact (l.int X (fun a k p => Or.inl p.1)).2.1
theorem kz_wW {v v' : Int} (K : Kz W s f) (hx : W x) : Kz W (wI s x 17 v) (wI f x 17 v') := by
  obtain ⟨k1, k2, k3, k4⟩ := K
  refine ⟨k1, k2, k3, fun a ha hw j => ?_⟩
  have nx : ¬ a = x := fun e => hw (by rw [e]; exact hx)
  have := k4 a ha hw j
  refine ⟨?_, this.2.1, this.2.2⟩
  rw [mIwI1 (fun z => nx z.1), mIwI1 (fun z => nx z.1)]; exact this.1
theorem FrS.w17 {v : Int} (F : FrS x h W σ r) (hx : W x) : FrS x h W (wI σ x 17 v) (wI r x 17 v) := by
  obtain ⟨k, g, z, n, o, w, e, r18, r19⟩ := F
  exact ⟨kz_wW k hx, g, z, n, o, w, fun j hj => by rw [mIwI1 (by omega), mIwI1 (by omega)]; exact e j hj, r18, r19⟩
/-- both keep a step; the class counts more parts than the reference -/
theorem both_step17 {v : Int} (hN : 500 ≤ N) (R : Rl x h t nv pa un fs Gs g own rt (wI σ x 17 v) τ) : ∃ own' rt' fs', Ev (x1_step N x σ) (fun r => Ev (tw_step N h τ) (fun b => b.1 = ((tsN fs' (if pa = 40 then 40 else pa + 1) : Nat) : Int) ∧ Rl x h t nv (if pa = 40 then 40 else pa + 1) 0 fs' (stG pa Gs) g own' rt' (wI r x 17 v) b.2 ∧ StF x σ r ∧ Ex (StP h) τ b.2 ∧ mI r x 10 = 0 ∧ mI b.2 h 65 = 0)) := by
  obtain ⟨RC1, RT0, ⟨q1, q2, q3, q4, q5⟩, q6, q7, q8⟩ := R
  have RC0 : RCl x h nv pa un Gs g own rt σ := RC1.u17
  obtain ⟨own', rt', r, er, c1, c2, c3⟩ := c_step hN RC0
  obtain ⟨fs', b, eb, t1, t2, t3, t4⟩ := t_step hN RT0
  have l := RC0.1
  have hh := RC0.2.1.1
  have ok := l.ok
  have n4 := RC0.2.2.1.2.2.2.2
  have c1' : RCl x h nv (if pa = 40 then 40 else pa + 1) 0 (stG pa Gs) g own' rt' (wI r x 17 v) := RCl.w17 c1
  have E : ∀ a k, ¬ ((a = h ∧ (k = 15 ∨ k = 16 ∨ k = 17 ∨ k = 65)) ∨ (h + 1 ≤ a ∧ a ≤ h + 5)) → mI b.2 a k = mI τ a k := fun a k n => t3.rI (fun p => n p.out)
  have C : ∀ j, j ≠ 10 → j ≠ 13 → j ≠ 14 → mI (wI r x 17 v) x j = mI (wI σ x 17 v) x j := fun j j1 j2 j3 => by
    rw [mI_wI, mI_wI]
    by_cases e : x = x ∧ j = 17
    · rw [if_pos e, if_pos e]
    · rw [if_neg e, if_neg e]; exact c2.2.2.1 j j1 j2 j3
  have gw : Grw τ b.2 h := ⟨by rw [E h 25 (by omega)]; exact Int.le_refl _, by rw [E h 19 (by omega)]; exact Int.le_refl _, by rw [E h 24 (by omega)]; exact Int.le_refl _⟩
  have k1 : ∀ k, mI (wI r x 17 v) (x + 1) k = mI (wI σ x 17 v) (x + 1) k := fun k => by
    rw [mIwI1 (by omega), mIwI1 (by omega)]
    exact c2.1.rI ok (by rw [(l.T (1, 102, 400) (by decide)).1]; decide) (by unfold StW; omega) k
  refine ⟨own', rt', fs', r, er, b, eb, t1, ⟨c1', t2, ⟨?_, ⟨?_, ?_⟩, ?_, ?_, q5.mv (FrS.w17 (c2.fr l hh) (Or.inl rfl)) (l.w17).t5 RC1.vo t3 (fun a k p => ⟨p.ft, p.qt.co⟩) gw⟩, fun i hi => ?_, q7.cg (stG_v pa Gs (by omega)) (by rw [mIwI1 (by omega)]; exact c3), q8.cg (stG_v pa Gs (by omega)) n4.1 (fun k hk => RT0.len (show rtV nv pa un (81 + k) by unfold rtV; omega)) t3 (fun a k p q => by have := p.out; omega) t4⟩, c2, t3, c3, t4⟩
  · obtain ⟨n, a1, a2, a3, a4⟩ := q1
    exact ⟨n, a1, by rw [C 1 (by decide) (by decide) (by decide)]; exact a2, by rw [E _ _ (by omega)]; exact a3, fun k hk => by rw [k1, E _ _ (by omega)]; exact a4 k hk⟩
  · rw [C 2 (by decide) (by decide) (by decide), E _ _ (by omega)]; exact q2.1
  · rw [C 3 (by decide) (by decide) (by decide), E _ _ (by omega)]; exact q2.2
  · unfold Rnx at q3 ⊢
    rw [C 21 (by decide) (by decide) (by decide), C 22 (by decide) (by decide) (by decide), E h 6 (by omega), E h 7 (by omega)]; exact q3
  · unfold Rpt at q4 ⊢
    rw [C 17 (by decide) (by decide) (by decide), E h 25 (by omega)]; exact q4
  · rw [E h 6 (by omega), E h 7 (by omega)]
    have v0 : rtV nv pa un 0 := Or.inl rfl
    unfold stG
    by_cases e : i = (if pa = 40 then 40 else pa + 1)
    · have p40 : i ≤ 40 := by rw [e]; split <;> omega
      rw [if_pos e]
      have := q6 0 v0
      unfold Vi at this ⊢
      rw [if_neg (by omega)] at this ⊢; exact this
    · rw [if_neg e]
      by_cases p : pa = 40
      · rw [if_pos p]
        rw [if_pos p] at e hi
        have hv : rtV nv pa un (sft i) := by unfold rtV at hi ⊢; unfold sft; split <;> omega
        have := q6 _ hv
        have ev : Vi nv (sft i) = Vi nv i := by
          unfold Vi sft
          by_cases c : 1 ≤ i ∧ i < 40
          · rw [if_pos c, if_neg (by omega), if_neg (by omega)]
          · rw [if_neg c]
        rw [ev] at this; exact this
      · rw [if_neg p]
        rw [if_neg p] at e hi
        exact q6 i (by unfold rtV at hi ⊢; omega)
theorem kz_un17 {v : Int} (ok : gOk s) : Kz (fun a => a = x) (wI s x 17 v) s :=
  ⟨Nat.le_refl _, ok, fun _ _ => ⟨rfl, rfl⟩, fun a _ hw k => ⟨(mIwI1 (fun z => hw z.1)).symm, rfl, rfl⟩⟩
theorem kz_to17 {v : Int} (ok : gOk s) : Kz (fun a => a = x) s (wI s x 17 v) :=
  ⟨Nat.le_refl _, ok, fun _ _ => ⟨rfl, rfl⟩, fun a _ hw k => ⟨mIwI1 (fun z => hw z.1), rfl, rfl⟩⟩
theorem WN.one (tx : mT s x = 1) (z0 : mT s 0 = 0) : WN s (fun a => a = x) := by
  refine ⟨fun e => ?_, fun a w => ?_⟩
  · have e : 0 = x := e
    rw [← e, z0] at tx; cases tx
  · rw [show a = x from w, tx]; exact ⟨by omega, fun e => (by cases e), fun e => (by cases e)⟩
theorem LabC.wrI {p : Pt} {q : Nat} {v : Int} (ta : mT s a = 21) (qa : q ≠ a) (k : LabC s q p) : LabC (wI s a i v) q p := by
  have ne : ∀ {b}, mT s b ≠ 21 → ∀ j, mI (wI s a i v) b j = mI s b j := fun {b} hb j => mIwI1 (fun z => hb (by rw [z.1]; exact ta))
  have nq : ∀ j, mI (wI s a i v) q j = mI s q j := fun j => mIwI1 (fun z => qa z.1)
  have cf : ∀ {b}, mT s b = 14 → cfx (wI s a i v) b = cfx s b := fun {b} hb => by unfold cfx; rw [ne (by omega), ne (by omega)]
  rcases k with ⟨k1, k2⟩ | ⟨k1, k2, k3, k4⟩ | ⟨k1, k2, kB⟩ | ⟨k1, k2⟩ | ⟨k1, k2, k3, kB⟩ | ⟨k1, k2, k3, k4, kB⟩ | ⟨k1, k2⟩ | ⟨k1, j, k2, k3, k4⟩ | ⟨k1, j, k2, k3, k4, k5⟩
  · exact Or.inl ⟨k1, k2⟩
  · refine Or.inr (Or.inl ⟨k1, k2, k3, ?_⟩)
    rw [k4]
    show mkT (lst (mN s (q + 1)) (mI s (q + 1))) = mkT (lst (mN s (q + 1)) (mI (wI s a i v) (q + 1)))
    rw [show mI (wI s a i v) (q + 1) = mI s (q + 1) from funext fun j => ne (by omega) j]
  · exact Or.inr (Or.inr (Or.inl ⟨k1, by rw [nq]; exact ⟨k2, kB⟩⟩))
  · exact Or.inr (Or.inr (Or.inr (Or.inl ⟨k1, k2⟩)))
  · refine Or.inr (Or.inr (Or.inr (Or.inr (Or.inl ⟨k1, k2, ?_⟩))))
    show _ = mkS (mI (wI s a i v) (mR s q 0) 0) (mI (wI s a i v) (mR s q 0) 1) (cfx (wI s a i v) (mR s q 0)) (mI (wI s a i v) q 1) ∧ bz1 (mI (wI s a i v) (mR s q 0) 2) ∧ bz1 (mI (wI s a i v) (mR s q 0) 3)
    rw [ne (b := mR s q 0) (by omega) 0, ne (b := mR s q 0) (by omega) 1, ne (b := mR s q 0) (by omega) 2, ne (b := mR s q 0) (by omega) 3, nq 1, cf k2]
    exact ⟨k3, kB⟩
  · refine Or.inr (Or.inr (Or.inr (Or.inr (Or.inr (Or.inl ⟨k1, k2, k3, ?_⟩)))))
    show _ = mkA (mI (wI s a i v) (mR s q 0) 0) (mI (wI s a i v) (mR s q 0) 1) (mI (wI s a i v) (mR s q 1) 0) (mI (wI s a i v) (mR s q 1) 1) (cfx (wI s a i v) (mR s q 0) + 4 * cfx (wI s a i v) (mR s q 1)) (mI (wI s a i v) q 2) ∧ (bz1 (mI (wI s a i v) (mR s q 0) 2) ∧ bz1 (mI (wI s a i v) (mR s q 0) 3)) ∧ bz1 (mI (wI s a i v) (mR s q 1) 2) ∧ bz1 (mI (wI s a i v) (mR s q 1) 3)
    rw [ne (b := mR s q 0) (by omega), ne (b := mR s q 0) (by omega), ne (b := mR s q 0) (by omega), ne (b := mR s q 0) (by omega), ne (b := mR s q 1) (by omega), ne (b := mR s q 1) (by omega), ne (b := mR s q 1) (by omega), ne (b := mR s q 1) (by omega), nq, cf k2, cf k3]
    exact ⟨k4, kB⟩
  · exact Or.inr (Or.inr (Or.inr (Or.inr (Or.inr (Or.inr (Or.inl ⟨k1, k2⟩))))))
  · exact Or.inr (Or.inr (Or.inr (Or.inr (Or.inr (Or.inr (Or.inr (Or.inl ⟨k1, j, k2, k3, k4⟩)))))))
  · exact Or.inr (Or.inr (Or.inr (Or.inr (Or.inr (Or.inr (Or.inr (Or.inr ⟨k1, j, k2, k3, k4, k5⟩)))))))
theorem IsA.wrI {AA : Nat → Prop} {v : Int} (ta : mT s a = 21) (ha : AA a) : ∀ (n q : Nat) (l : Fm), IsA AA s n q l → IsA AA (wI s a i v) n q l := by
  intro n
  induction n with
  | zero => intro q l k; exact k.elim
  | succ n ih =>
    intro q l k
    obtain ⟨p, ls, k1, k2, k3, k4, k5, ⟨k6, k6'⟩, k7⟩ := k
    have qa : q ≠ a := fun e => k6 (by rw [e]; exact ha)
    exact ⟨p, ls, k1, k2, k3.wrI ta qa, k4, k5, ⟨k6, k6'⟩, fun i hi => ih _ _ (k7 i hi)⟩
/-- the class's formula elsewhere, as a content of its own -/
theorem c_copyF (hN : 200 ≤ N) (fn : FN nv fl) (ok : gOk s) (z : 0 < mZ s) (z00 : mT s 0 = 0) (hx : x + 1430 < mZ s) (mc : MvC s mv nv fl dr dc) (kA : CtC s A ct) (hne : ct.2 ≠ []) (hw : ∀ p ∈ ct.2, pW p < nv) : ∃ x44 fin, dp_Part_shifted N 64 (mR (wN s 21 2) A 0) mv (wN s 21 2) = some x44 ∧ dp_Content_parts A x44.2 = some ((ct.2.length : Nat) : Int) ∧ x23_init (mZ s) x44.1 ((ct.2.length : Nat) : Int) x44.2 = some fin ∧ Kz (fun _ => False) s fin ∧ CtC fin (mZ s) (vE, ct.2.map (shP fl dr dc)) ∧ mZ fin ≤ mZ s + 4 * ct.2.length ∧ mS fin ≤ mS s + 13 * ct.2.length ∧ (∀ q, mZ s ≤ q → mT fin q = 18 → mR fin q 1 ≠ x + 1430) := by
  obtain ⟨t21, v0, l60, isp, k6, i1⟩ := kA.fm hne
  have lA : A < mZ s := gOk_lt ok (by omega)
  have K0 : Kz (fun _ => False) s (wN s 21 2) := (Kz.rf ok).wN
  have z0 : 0 < mZ (wN s 21 2) := by show 0 < mZ s + 1; omega
  have r0 : mR (wN s 21 2) A 0 = mR s A 0 := by rw [mR_wN, if_neg (by omega)]
  have tz : mT (wN s 21 2) (mZ s) = 21 := by rw [mT_wN, if_pos rfl]
  have isa : IsA (fun b => b = mZ s) (wN s 21 2) 60 (mR s A 0) ct.2 := IsA.kp K0 ok z _ _ _ (IsP.isa (fun b hb => by rw [show b = mZ s from hb]; exact ok _ (Nat.le_refl _)) _ _ _ isp)
  obtain ⟨x44, e44, o1, o2, o3, o4, o5⟩ := c_shifted (N := N) (by omega) fn 60 64 (mR s A 0) ct.2 (wN s 21 2) (fun b => b = mZ s) (by decide) K0.ok z0 (fun b hb => by rw [show b = mZ s from hb]; exact Nat.lt_succ_self _) (mc.kp K0 ok) hw isa
  have o3 : mZ x44.2 ≤ mZ s + 1 + 3 * ct.2.length := o3
  have o4 : mS x44.2 ≤ mS s + 2 + 11 * ct.2.length := o4
  have K1 := K0.tr o1
  have A0 : A ≠ 0 := fun e => by rw [e, z00] at t21; cases t21
  have t44 : mT x44.2 (mZ s) = 21 := by rw [o1.tag K0.ok (by omega)]; exact tz
  obtain ⟨fin, hf⟩ : ∃ fin, fin = wI (wR x44.2 (mZ s) 0 x44.1) (mZ s) 1 ((ct.2.length : Nat) : Int) := ⟨_, rfl⟩
  have fT : mT fin = mT x44.2 := by rw [hf]; rfl
  have f0 : mR fin (mZ s) 0 = x44.1 := by rw [hf, mR_wI, mR_wR, if_pos ⟨rfl, rfl⟩]
  have f1 : mI fin (mZ s) 1 = ((ct.2.length : Nat) : Int) := by rw [hf, mIwI2 ⟨rfl, rfl⟩, w32_i (by omega) (by omega)]
  have fz : mZ fin = mZ x44.2 ∧ mS fin = mS x44.2 := by rw [hf]; exact ⟨rfl, rfl⟩
  have l0 : 0 < ct.2.length := List.length_pos_iff.mpr hne
  have isf : IsA (fun b => b = mZ s) fin 60 x44.1 (ct.2.map (shP fl dr dc)) := by
    rw [hf]
    exact IsA.wrI (AA := fun b => b = mZ s) (s := wR x44.2 (mZ s) 0 x44.1) t44 rfl _ _ _ (IsA.wrR (A := fun b => b = mZ s) rfl (by omega) _ _ _ o2)
  refine ⟨x44, fin, by rw [r0]; exact e44, c_parts (kA.kp K1 ok z WNF) A0, by unfold x23_init; rw [if_pos t44, hf]; rfl, ?_, ?_, by rw [fz.1]; omega, by rw [fz.2]; omega, fun q hq ht => ?_⟩
  · rw [hf]
    exact (K1.wR (Or.inl (Nat.le_refl _))).wI (Or.inl (Nat.le_refl _))
  · refine Or.inr (Or.inr (Or.inr (Or.inr ⟨by rw [fT]; exact t44, rfl, ?_, ?_, ?_, ?_, ?_⟩)))
    · exact fun e => hne (List.map_eq_nil_iff.mp e)
    · show (ct.2.map (shP fl dr dc)).length ≤ 60
      rw [List.length_map]; exact l60
    · rw [f0]; exact IsA.isp _ _ _ isf
    · show pK (lab (ct.2.map (shP fl dr dc))) ≠ 6
      rw [lab_map hne]; exact fun e => k6 (shP_kk e)
    · rw [f1]; show _ = (((ct.2.map (shP fl dr dc)).length : Nat) : Int); rw [List.length_map]
  · rw [fT] at ht
    have nb : q ≠ mZ s := fun e => by rw [e, t44] at ht; cases ht
    have := o5 q (by show mZ s + 1 ≤ q; omega) ht
    have this : mZ s + 1 ≤ mR x44.2 q 1 := this
    have e : mR fin q 1 = mR x44.2 q 1 := by rw [hf, mR_wI, mR_wR, if_neg (fun z => nb z.1)]
    rw [e]; omega
end State67
