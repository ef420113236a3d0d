/-! ===== PHASE 2: the twin's formulas: looking, calls of many, all parts ===== -/
section TwEv8
variable {N h d s n : Nat} {σ σ' : gMem} {v w a b : Vl} {cx : Cx}
theorem Hg.tv1 {q k : Nat} (x : Hg h (d + 1) q k) : Pv h d q k := by unfold Hg at x; unfold Pv Hg; omega
theorem Fp.tv0 {q k : Nat} (x : Fp h q k) : Pv h d q k := x.tv
theorem ArT.hg {t e : Nat} {cs : List Nat} (x : Ex (Hg h e) σ σ') (g : ArT σ h t cs) : ArT σ' h t cs := g.ex x (fun k _ _ => by unfold Hg; omega)
theorem VH.hg {e : Nat} (x : Ex (Hg h d) σ σ') (g : VH σ h e w) (n : e < d) : VH σ' h e w := VH.lt x g n
theorem TCx.va {ver : Int} (g : TCx σ h s cx) (h1 : -1 ≤ ver) (h2 : ver < 40) : VaT σ h (shn s ver) (cx.2 ver) := g.2.2.2.2 ver h1 h2
theorem t_look_l {W : Int → Int → Int → gMem → Option gMem} {t : Nat} {kd : Int} {cs : List Nat} {V : Nat → Vl} {key : Vl} {K : Int → Int → gMem → Option gMem} {Φ : gMem → Prop} {σ0 : gMem} (hd : d + 2 < 200) (hN : 30 ≤ N) (h4 : key.1 ≠ 4)
    (hK : ∀ (s' : gMem) (c f : Nat), Ex (Hg h (d + 1)) σ0 s' → TB s' h → c = (cs.map V).countP (likeV key) → f = firstLike key (cs.map V) 0 → c ≤ 320 → f ≤ 320 → Ev (K c f s') Φ) :
    ∀ (m i fu : Nat) (s' : gMem) (c f : Nat), i + m = cs.length → m < fu → Ex (Hg h (d + 1)) σ0 s' → TA s' h → TB s' h → Cw s' h → (∀ c, c < 320 → VC s' h (320 * t + c) (V c)) → ArT s' h t cs → VH s' h d key →
      c ≤ i → f ≤ i → c + ((cs.drop i).map V).countP (likeV key) = (cs.map V).countP (likeV key) → (if f ≠ 0 then f else firstLike key ((cs.drop i).map V) i) = firstLike key (cs.map V) 0 → Ev (tw_workLook_l153 N W h d kd K fu c f i s') Φ := by
  intro m
  induction m with
  | zero =>
    intro i fu s' c f h1 h2 X ta tb cw va ar gk hc hf ec ef
    obtain ⟨fu, rfl⟩ : ∃ j, fu = j + 1 := ⟨fu - 1, by omega⟩
    have hl := ar.len.1
    rw [List.drop_eq_nil_of_le (by omega)] at ec ef
    unfold tw_workLook_l153
    refine Ev.e (t_areaSize ar) (Ev.g (by omega) (hK s' c f X tb (by simpa using ec) ?_ (by omega) (by omega)))
    by_cases q : f = 0
    · rw [if_neg (fun p => p q)] at ef
      rw [q]; exact ef
    · rw [if_pos q] at ef; exact ef
  | succ m ih =>
    intro i fu s' c f h1 h2 X ta tb cw va ar gk hc hf ec ef
    obtain ⟨fu, rfl⟩ : ∃ j, fu = j + 1 := ⟨fu - 1, by omega⟩
    have hi : i < cs.length := by omega
    have hl := ar.len
    have hci := hl.2 _ (List.getElem_mem hi)
    have ht : t ≤ 40 := by obtain ⟨_, _, _, _, -, -, -, -, -, -, -, -, -, q, -⟩ := ar; exact q
    have dr : (cs.drop i).map V = V cs[i] :: (cs.drop (i + 1)).map V := by rw [List.drop_eq_getElem_cons hi, List.map_cons]
    rw [dr, List.countP_cons] at ec
    rw [dr] at ef
    unfold tw_workLook_l153
    refine Ev.e (t_areaSize ar) (Ev.f (by omega) (Ev.e (t_areaCell ar hi) ?_))
    refine Ev.c (t_isLike hd (by omega) hN ta tb cw gk (va _ hci) h4) (fun x18 _ q => ?_)
    obtain ⟨q1, q2, q3⟩ := q
    have go : ∀ (c' f' : Nat), c' ≤ i + 1 → f' ≤ i + 1 → c' + ((cs.drop (i + 1)).map V).countP (likeV key) = (cs.map V).countP (likeV key) → (if f' ≠ 0 then f' else firstLike key ((cs.drop (i + 1)).map V) (i + 1)) = firstLike key (cs.map V) 0 → Ev (tw_workLook_l153 N W h d kd K fu c' f' ((i + 1 : Nat) : Int) x18.2) Φ := by
      intro c' f' a1 a2 a3 a4
      exact ih (i + 1) fu x18.2 c' f' (by omega) (by omega) (X.tr q1) (ta.ex q1) q2 (cw.ex q1 (fun _ _ p => p.le)) (fun c hc => VG.ex q1 (va c hc) (by unfold Hg; omega) (by unfold Hg; omega) (by unfold Hg; omega) (fun i _ => by unfold Hg; omega)) (ar.hg q1) (gk.hg q1 (by omega)) a1 a2 a3 a4
    rw [q3]
    unfold tw_workLook_l153_j193 tw_workLook_l153_j195
    rw [inc32 (i := i) (by omega), inc32 (i := c) (by omega)]
    by_cases lk : likeV key (V cs[i]) = true
    · rw [if_pos lk] at ec ⊢
      refine Ev.f (by decide) ?_
      by_cases q : f = 0
      · rw [if_neg (fun p => p q)] at ef
        refine Ev.f (fun p => p (by omega)) (go (c + 1) (i + 1) (by omega) (by omega) (by omega) ?_)
        rw [← ef]
        unfold firstLike
        rw [if_pos (by omega), if_pos lk]
      · rw [if_pos q] at ef
        refine Ev.g (by omega) (go (c + 1) f (by omega) (by omega) (by omega) ?_)
        rw [if_pos q]; exact ef
    · rw [if_neg lk] at ec ⊢
      refine Ev.g rfl (go c f (by omega) (by omega) (by omega) ?_)
      by_cases q : f = 0
      · rw [if_neg (fun p => p q)] at ef ⊢
        rw [← ef]
        conv => rhs; unfold firstLike
        rw [if_neg lk]
      · rw [if_pos q] at ef ⊢; exact ef
theorem t_workLook {q : Nat} {p : Pt} {ls : List Fm} {W : Int → Int → Int → gMem → Option gMem} (g : Nd σ h n q p ls) (hW : HW h s cx n W) (hN : 400 ≤ N) (hs : s ≤ 40) (h1 : pK p = 45 ∨ pK p = 46 ∨ pK p = 47) (tc : TCx σ h s cx) (tb : TB σ h) (hd : d + ls.flatten.length + 4 ≤ 200) (ia ik : Nat) (hi : (pK p = 46 ∧ ia = 1 ∧ ik = 0) ∨ (pK p ≠ 46 ∧ ia = 0 ∧ ik = 1)) : Ev (tw_workLook N W h q s d σ) (fun r => EP h d σ r (evLook cx (pK p) (xp (ls.map (fun y => (lab y, ev cx y))) ia) (xv (ls.map (fun y => (lab y, ev cx y))) ik))) := by
  have ca := g.2.2.1.call (by omega)
  have hl : ls.length = 2 := by
    have e1 : leastA (pK p) = 2 := by unfold leastA; rw [if_neg (by omega), if_neg (by omega)]
    have e2 : mostA (pK p) = 2 := by unfold mostA; rw [if_neg (by omega), e1]
    have := g.2.2.2.1
    omega
  have ha : ia < ls.length := by omega
  have hk : ik < ls.length := by omega
  have n6 : pK (lab ls[ik]) ≠ 6 := takes_n6 (g.tk (by omega) hk) (by omega) (by omega)
  have fk := g.fit hk
  have hq := g.1.1
  rw [xv_at hk, xp_at ha]
  have sa := g.2.2.2.2.2 ia ha
  have La := sa.lab
  have Oa : PtOk (lab ls[ia]) := by
    cases n with
    | zero => exact sa.elim
    | succ n =>
      obtain ⟨p', ls', e1, -, -, e4, -⟩ := sa
      rw [e1, lab_app]; exact e4
  generalize hqa : q - 1 - (ls.drop (ia + 1)).flatten.length = qa at *
  have J42 : Ev (tw_workLook_j42 N W h s d (pK p) qa ik q σ) (fun r => EP h d σ r (evLook cx (pK p) (lab ls[ia]) (ev cx ls[ik]))) := by
    unfold tw_workLook_j42
    refine g.go hW (by omega) rfl hk n6 tc tb (by omega) (fun s1 q1 => Ev.g (dG (by omega)) ?_)
    rw [tn, q1.2.2.2.1]
    unfold evLook
    by_cases e0 : (ev cx ls[ik]).1 = 4
    · refine Ev.f (fun q => q e0) (Ev.r ?_)
      rw [if_pos e0]; exact q1
    · refine Ev.g e0 ?_
      rw [if_neg e0]
      have tc1 := tc.pv q1.1
      refine Ev.c (t_area (by omega) hs tc1 (La.pv q1.1) Oa) (fun x10 _ q2 => ?_)
      obtain ⟨q21, q22, q23⟩ := q2
      have q21 := q21.mono (fun _ _ p => Ap.f p)
      have X2 : Ex (Pv h d) σ x10.2 := q1.1.tr (q21.mono (fun _ _ p => p.tv0))
      have T2 : TB x10.2 h := q1.2.1.fp q21
      have gk : VH x10.2 h d (ev cx ls[ik]) := q1.2.2.fp q21
      have tc2 := tc.pv X2
      by_cases c6 : pK (lab ls[ia]) = 6
      · rw [if_neg (show ¬ pK (lab ls[ia]) ≠ 6 from fun q => q c6)]
        have q22 := q22 c6
        cases hcs : cxArea cx (lab ls[ia]) with
        | none =>
          rw [hcs] at q22
          refine Ev.f (fun q => q q22) (Ev.c (t_error (by omega) (by decide) (by decide)) (fun r _ q => Ev.r (EP.hs X2 T2 q)))
        | some cs =>
          rw [hcs] at q22
          obtain ⟨r1, ar⟩ := q22
          have hv := Oa.ver
          have va := tc2.va hv.1 hv.2
          have hll := ar.len
          refine Ev.g (by omega) ?_
          dsimp only
          by_cases c45 : pK p = 45
          · refine Ev.f (fun q => q (by omega)) (Ev.c (t_wantsNumber (by omega) gk) (fun x3 _ q3 => ?_))
            rw [if_pos c45, q3.1]
            have X3 : Ex (Pv h d) σ x3.2 := X2.tr (q3.2.1.mono (fun _ _ p => (p.g (Nat.le_refl _)).tv))
            have T3 := q3.2.2.1 T2
            by_cases w1 : (wantN (ev cx ls[ik])).1 = 1
            · rw [if_pos w1, if_neg (show ¬ ¬ (wantN (ev cx ls[ik])).1 = 1 from fun q => q w1)]
              refine Ev.g (by decide) (Ev.g (dG (by omega)) ?_)
              rw [q3.2.2.2.2.2.1 (by omega) (by omega)]
              have ar3 := ar.hp q3.2.1
              have va3 : VaT x3.2 h (shn s (pW (lab ls[ia]))) (cx.2 (pW (lab ls[ia]))) := va.pw (q3.2.1.mono (fun _ _ p => Hp.tw p))
              generalize (wantN (ev cx ls[ik])).2.1 = x at *
              rw [List.length_map]
              by_cases c1 : x < 1
              · refine Ev.g (gcmp_ng.mpr c1) ?_
                rw [if_pos (Or.inl c1)]
                exact Ev.c (t_error (by omega) (by decide) (by decide)) (fun r _ q => Ev.r (EP.hs X3 T3 q))
              · refine Ev.f (fun q => c1 (gcmp_ng.mp q)) (Ev.e (t_areaSize ar3) ?_)
                by_cases c2 : x ≤ cs.length
                · refine Ev.g (gcmp_np.mpr c2) ?_
                  rw [if_neg (by omega)]
                  have hx : x.toNat - 1 < cs.length := by omega
                  have ex : w32 (x - 1) = ((x.toNat - 1 : Nat) : Int) := by rw [w32_i (by omega) (by omega)]; omega
                  rw [ex]
                  refine Ev.e (t_areaCell ar3 hx) (Ev.c (t_load (by omega) ?_ (by omega) (tc.pv X3).1.1 (tc.pv X3).1.2.1 T3 (va3 _ (hll.2 _ (List.getElem_mem hx)))) (fun r _ q => Ev.r ?_))
                  · have := hll.2 _ (List.getElem_mem hx)
                    have := shn_lt (s := s) hs hv.2
                    omega
                  · have e : (cs.map (cx.2 (pW (lab ls[ia])))).getD (x.toNat - 1) vE = cx.2 (pW (lab ls[ia])) cs[x.toNat - 1] := by
                      rw [List.getD_eq_getElem?_getD, List.getElem?_map, List.getElem?_eq_getElem hx]; rfl
                    rw [e]
                    exact EP.hs X3 T3 q
                · refine Ev.f (fun q => c2 (gcmp_np.mp q)) ?_
                  rw [if_pos (by omega)]
                  exact Ev.c (t_error (by omega) (by decide) (by decide)) (fun r _ q => Ev.r (EP.hs X3 T3 q))
            · rw [if_neg w1, if_pos (show ¬ (wantN (ev cx ls[ik])).1 = 1 from w1)]
              exact Ev.f (by decide) (Ev.r (EP.hs X2 T2 q3.2))
          · refine Ev.g (by omega) ?_
            rw [if_neg c45]
            refine t_look_l (V := cx.2 (pW (lab ls[ia]))) (key := ev cx ls[ik]) (t := shn s (pW (lab ls[ia]))) (cs := cs) (σ0 := x10.2) (by omega) (by omega) e0 (fun s' c f X' T' hc hf bc bf => ?_) cs.length 0 N x10.2 0 0 (by omega) (by omega) Ex.rf tc2.1 T2 tc2.2.1 va ar gk (by omega) (by omega) (by rw [List.drop_zero]; omega) (by rw [if_neg (fun q => q rfl), List.drop_zero])
            have X4 : Ex (Pv h d) σ s' := X2.tr (X'.mono (fun _ _ p => p.tv1))
            by_cases c47 : pK p = 47
            · refine Ev.f (fun q => q (by omega)) ?_
              rw [if_pos c47, ← hc]
              exact Ev.c (t_number (by omega) (by omega)) (fun r _ q => Ev.r (EP.hs X4 T' q))
            · refine Ev.g (by omega) ?_
              rw [if_neg c47, ← hf]
              by_cases f0 : f = 0
              · refine Ev.f (fun q => q (by omega)) ?_
                rw [if_pos f0]
                exact Ev.c (t_error (by omega) (by decide) (by decide)) (fun r _ q => Ev.r (EP.hs X4 T' q))
              · refine Ev.g (by omega) ?_
                rw [if_neg f0]
                exact Ev.c (t_number (by omega) (by omega)) (fun r _ q => Ev.r (EP.hs X4 T' q))
      · rw [if_pos (show pK (lab ls[ia]) ≠ 6 from c6)]
        exact Ev.f (fun q => q (q23 c6)) (Ev.c (t_error (by omega) (by decide) (by decide)) (fun r _ q => Ev.r (EP.hs X2 T2 q)))
  have J22 : ∀ t0 : Int, t0 = (ia : Nat) → Ev (tw_workLook_j22 N W h q s d (pK p) t0 q σ) (fun r => EP h d σ r (evLook cx (pK p) (lab ls[ia]) (ev cx ls[ik]))) := by
    intro t0 ht0
    unfold tw_workLook_j22
    rw [ht0]
    refine Ev.e (g.under (by omega) ha) ?_
    rw [hqa]
    rcases hi with ⟨a1, a2, a3⟩ | ⟨a1, a2, a3⟩
    · refine Ev.f (fun q => q (by omega)) ?_
      subst a3
      exact J42
    · refine Ev.g (by omega) ?_
      subst a3
      exact J42
  unfold tw_workLook
  refine Ev.g (by omega) ?_
  rw [tn, g.1.2.1]
  rcases hi with ⟨a1, a2, a3⟩ | ⟨a1, a2, a3⟩
  · exact Ev.f (fun q => q (by omega)) (J22 1 (by omega))
  · exact Ev.g (by omega) (J22 0 (by omega))
end TwEv8
