/-! ===== PHASE 2: the twin's formulas: calls of many ===== -/
section TwEv4
variable {N h d : Nat} {σ σ' s : gMem} {v w a b : Vl}
theorem t_wantsTruths {k : Nat} : tw_wantsTruths k σ = some (if k = 31 ∨ k = 32 then 1 else 0) := by
  unfold tw_wantsTruths
  by_cases h1 : k = 31
  · rw [if_pos (by omega), if_pos (Or.inl h1)]
  · by_cases h2 : k = 32
    · rw [if_neg (by omega), if_neg (by omega), if_pos (Or.inr h2)]
    · rw [if_neg (by omega), if_pos (by omega), if_neg (by omega)]
/-- all values of a sheet are values -/
def VaT (σ : gMem) (h t : Nat) (V : Nat → Vl) : Prop := ∀ c, c < 320 → VC σ h (320 * t + c) (V c)
theorem VaT.pw {t e : Nat} {V : Nat → Vl} (x : Ex (Pw h e) σ σ') (g : VaT σ h t V) : VaT σ' h t V := fun c hc =>
  VG.ex x (g c hc) (by unfold Pw Hp Fp; omega) (by unfold Pw Hp Fp; omega) (by unfold Pw Hp Fp; omega) (fun i hi => by unfold Pw Hp Fp; omega)
theorem ArT.hp {t e : Nat} {cs : List Nat} (x : Ex (Hp h e) σ σ') (g : ArT σ h t cs) : ArT σ' h t cs := g.ex x (fun k _ _ => by unfold Hp; omega)
theorem ArT.gp {t : Nat} {cs : List Nat} (x : Ex (Gp h) σ σ') (g : ArT σ h t cs) : ArT σ' h t cs := g.ex x (fun k _ _ => by unfold Gp; omega)
theorem CoT.hp {k e : Nat} {acc : List Int} (x : Ex (Hp h e) σ σ') (g : CoT σ h k acc) : CoT σ' h k acc := g.ex x (fun i _ _ => by unfold Hp; omega)
theorem Gp.tw {e q k : Nat} (x : Gp h q k) : Pw h e q k := Or.inr x.f
theorem t_countArea_l2 {e t k n0 : Nat} {cs : List Nat} {V : Nat → Vl} {K : gMem → Option (Int × gMem)} {Φ : Int × gMem → Prop} {σ0 : gMem} {R : Vl ⊕ List Int} (he : e < 200) (hN : 30 ≤ N) (hn : n0 + cs.length ≤ 2560)
    (hK : ∀ s' acc', Ex (Pw h e) σ0 s' → TB s' h → CoT s' h k acc' → AccOk (n0 + cs.length) acc' → R = .inr acc' → Ev (K s') Φ)
    (hE : ∀ s' e', Ex (Pw h e) σ0 s' → TB s' h → VH s' h e e' → R = .inl e' → Φ (0, s')) :
    ∀ (m i f : Nat) (s : gMem) (acc : List Int), i + m = cs.length → m < f → Ex (Pw h e) σ0 s → TA s h → TB s h → VaT s h t V → ArT s h t cs → CoT s h k acc → AccOk (n0 + i) acc → R = mArea k ((cs.drop i).map V) acc → Ev (tw_countArea_l2 N h k e K f i s) Φ := by
  intro m
  induction m with
  | zero =>
    intro i f s acc h1 h2 X ta tb va ar co ok hR
    obtain ⟨f, rfl⟩ : ∃ j, f = j + 1 := ⟨f - 1, by omega⟩
    unfold tw_countArea_l2
    refine Ev.e (t_areaSize ar) (Ev.g (by omega) (hK s acc X tb co (ok.mono (by omega)) ?_))
    rw [hR, List.drop_eq_nil_of_le (by omega)]; rfl
  | succ m ih =>
    intro i f s acc h1 h2 X ta tb va ar co ok hR
    obtain ⟨f, rfl⟩ : ∃ j, f = j + 1 := ⟨f - 1, by omega⟩
    have hi : i < cs.length := by omega
    have hc := ar.len.2 _ (List.getElem_mem hi)
    have ht : t ≤ 40 := by obtain ⟨_, _, _, _, -, -, -, -, -, -, -, -, -, q, -⟩ := ar; exact q
    unfold tw_countArea_l2
    refine Ev.e (t_areaSize ar) (Ev.f (by omega) (Ev.e (t_areaCell ar hi) ?_))
    refine Ev.c (t_load he (by omega) hN ta.1 ta.2.1 tb (va _ hc)) (fun s1 _ q1 => Ev.g (dG he) ?_)
    rw [tn, q1.2.2.2.1]
    have dr : (cs.drop i).map V = V cs[i] :: (cs.drop (i + 1)).map V := by rw [List.drop_eq_getElem_cons hi, List.map_cons]
    have T1 := q1.2.1 tb
    have co1 := co.hp q1.1
    have ar1 := ar.hp q1.1
    have X1 : Ex (Pw h e) σ0 s1 := X.tr (q1.1.mono (fun _ _ p => Hp.tw p))
    have va1 := va.pw (q1.1.mono (fun _ _ p => Hp.tw p))
    have ta1 := ta.ex q1.1
    have hk := q1.2.2.1
    have J65 : ∀ s2 acc2, Ex (Pw h e) s1 s2 → TB s2 h → ArT s2 h t cs → CoT s2 h k acc2 → AccOk (n0 + (i + 1)) acc2 → R = mArea k ((cs.drop (i + 1)).map V) acc2 → Ev (tw_countArea_l2_j65 N h k e i (tw_countArea_l2 N h k e K f) K s2) Φ := by
      intro s2 acc2 X2 T2 ar2 co2 ok2 hR2
      unfold tw_countArea_l2_j65
      rw [inc32 (by omega)]
      exact ih (i + 1) f s2 acc2 (by omega) (by omega) (X1.tr X2) (ta1.ex X2) T2 (va1.pw X2) ar2 co2 ok2 hR2
    have J38 : ¬ ((V cs[i]).1 = 4 ∧ k ≠ 36) → Ev (tw_countArea_l2_j38 N h k e i (tw_countArea_l2 N h k e K f) K s1) Φ := by
      intro hne
      unfold tw_countArea_l2_j38
      refine Ev.g (dG he) (Ev.e t_wantsTruths ?_)
      rw [tn, q1.2.2.2.1]
      have J56 : ∀ t0 : Int, t0 = wantK k → Ev (tw_countArea_l2_j56 N h k e i t0 (V cs[i]).1 (tw_countArea_l2 N h k e K f) K s1) Φ := by
        intro t0 ht0
        unfold tw_countArea_l2_j56
        by_cases c : (V cs[i]).1 = wantK k
        · refine Ev.f (fun q => q (by rw [ht0]; exact c)) ?_
          have hx : mL s1 (h + 34) e = (V cs[i]).2.1 := q1.2.2.2.2.1 (by rw [c]; unfold wantK; split <;> decide) (by rw [c]; unfold wantK; split <;> decide)
          have hb : -1000000000000000 ≤ (V cs[i]).2.1 ∧ (V cs[i]).2.1 ≤ 1000000000000000 := by
            unfold wantK at c
            split at c
            · have := (hk.k3 c).2; omega
            · exact (hk.k1 c).2
          refine Ev.c (t_count he co1 (ok.mono (by omega)) hx hb.1 hb.2) (fun s2 _ q2 => ?_)
          refine J65 s2 _ (q2.1.mono (fun _ _ p => Gp.tw p)) (T1.fp (q2.1.mono (fun _ _ p => p.f))) (ar1.gp q2.1) q2.2 (ok.snoc hb.1 hb.2) ?_
          rw [hR, dr]
          conv => lhs; unfold mArea
          rw [if_neg hne, if_pos c]
        · refine Ev.g (fun q => c (by rw [q]; exact ht0)) (J65 s1 acc Ex.rf T1 ar1 co1 (ok.mono (by omega)) ?_)
          rw [hR, dr]
          conv => lhs; unfold mArea
          rw [if_neg hne, if_neg c]
      by_cases c : k = 31 ∨ k = 32
      · rw [if_pos c]
        exact Ev.f (by decide) (J56 3 (by unfold wantK; rw [if_pos c]))
      · rw [if_neg c]
        exact Ev.g rfl (J56 1 (by unfold wantK; rw [if_neg c]))
    by_cases c4 : (V cs[i]).1 = 4
    · refine Ev.f (fun q => q c4) ?_
      by_cases c36 : k = 36
      · exact Ev.g (by omega) (J38 (fun q => q.2 c36))
      · refine Ev.f (by omega) (Ev.r (hE s1 (V cs[i]) X1 T1 q1.2.2 ?_))
        rw [hR, dr]
        unfold mArea
        rw [if_pos ⟨c4, c36⟩]
    · exact Ev.g c4 (J38 (fun q => c4 q.1))
theorem t_countArea {e t k n0 : Nat} {cs : List Nat} {V : Nat → Vl} {acc : List Int} (he : e < 200) (hN : 400 ≤ N) (hn : n0 + cs.length ≤ 2560) (ta : TA σ h) (tb : TB σ h) (va : VaT σ h t V) (ar : ArT σ h t cs) (co : CoT σ h k acc) (ok : AccOk n0 acc) : Ev (tw_countArea N h k e σ) (fun r => Ex (Pw h e) σ r.2 ∧ TB r.2 h ∧ match mArea k (cs.map V) acc with
    | .inl e' => r.1 = 0 ∧ VH r.2 h e e'
    | .inr acc' => r.1 = 1 ∧ CoT r.2 h k acc' ∧ AccOk (n0 + cs.length) acc') := by
  unfold tw_countArea
  have hl := ar.len.1
  refine t_countArea_l2 (R := mArea k (cs.map V) acc) (σ0 := σ) (n0 := n0) (V := V) he (by omega) hn (fun s' acc' X T co' ok' hR => Ev.r ?_) (fun s' e' X T g hR => ?_) cs.length 0 N σ acc (by omega) (by omega) Ex.rf ta tb va ar co ok (by rw [List.drop_zero])
  · rw [hR]; exact ⟨X, T, rfl, co', ok'⟩
  · rw [hR]; exact ⟨X, T, rfl, g⟩
theorem t_countOne {q e k s n0 : Nat} {p : Pt} {cx : Cx} {acc : List Int} (he : e < 200) (hN : 40 ≤ N) (hs : s ≤ 40) (tb : TB σ h) (g : TCx σ h s cx) (hL : LabT σ h q p) (hp : PtOk p) (h6 : pK p ≠ 6) (gv : VH σ h e v) (hw : mI σ h 81 = s) (h4 : k ≠ 36 → v.1 ≠ 4) (hg : isGone cx p = true → v = vErr 1) (co : CoT σ h k acc) (ok : AccOk n0 acc) (hn : n0 ≤ 2560) : Ev (tw_countOne N h k q e σ) (fun r => Ex (Pw h e) σ r.2 ∧ TB r.2 h ∧ match mStep cx k (p, v) acc with
    | .inl e' => r.1 = 0 ∧ VH r.2 h e e'
    | .inr acc' => r.1 = 1 ∧ CoT r.2 h k acc' ∧ AccOk (n0 + 1) acc') := by
  have hk := gv.1
  unfold tw_countOne
  by_cases c36 : k = 36
  · refine Ev.f (fun q => q (by omega)) (Ev.g (dG he) ?_)
    rw [tn, gv.2.1]
    have es : mStep cx k (p, v) acc = if isGone cx p = true then Sum.inl (vErr 1) else .inr (if v.1 = 1 then acc ++ [v.2.1] else acc) := by
      unfold mStep; rw [if_neg h6, if_pos c36]
    have J60 : ∀ t0 : Int, (t0 = if isGone cx p = true then 1 else 0) → Ev (tw_countOne_j60 N h k e t0 σ) (fun r => Ex (Pw h e) σ r.2 ∧ TB r.2 h ∧ match mStep cx k (p, v) acc with
        | .inl e' => r.1 = 0 ∧ VH r.2 h e e'
        | .inr acc' => r.1 = 1 ∧ CoT r.2 h k acc' ∧ AccOk (n0 + 1) acc') := by
      intro t0 ht0
      unfold tw_countOne_j60 tw_countOne_j78
      refine Ev.g (dG he) ?_
      rw [tn, gv.2.1, es, ht0]
      by_cases c1 : v.1 = 1
      · have hng : ¬ isGone cx p = true := fun q => by rw [hg q] at c1; cases c1
        obtain ⟨-, b1, b2⟩ := hk.k1 c1
        rw [if_neg hng, if_neg hng, if_pos c1]
        refine Ev.f (fun q => q c1) (Ev.c (t_count he co (ok.mono hn) (gv.2.2.1 (by omega) (by omega)) b1 b2) (fun s2 _ q2 => Ev.f (fun q => q rfl) (Ev.r ⟨q2.1.mono (fun _ _ p => Gp.tw p), tb.fp (q2.1.mono (fun _ _ p => p.f)), rfl, q2.2, ok.snoc b1 b2⟩)))
      · refine Ev.g c1 ?_
        by_cases hgn : isGone cx p = true
        · rw [if_pos hgn, if_pos hgn]
          refine Ev.g (by decide) (Ev.r ⟨Ex.rf, tb, rfl, ?_⟩)
          rw [← hg hgn]; exact gv
        · rw [if_neg hgn, if_neg hgn, if_neg c1]
          exact Ev.f (fun q => q rfl) (Ev.r ⟨Ex.rf, tb, rfl, co, ok.mono (by omega)⟩)
    have J59 : ¬ isGone cx p = true → Ev (tw_countOne_j59 N h k e σ) (fun r => Ex (Pw h e) σ r.2 ∧ TB r.2 h ∧ match mStep cx k (p, v) acc with
        | .inl e' => r.1 = 0 ∧ VH r.2 h e e'
        | .inr acc' => r.1 = 1 ∧ CoT r.2 h k acc' ∧ AccOk (n0 + 1) acc') := fun q => by
      unfold tw_countOne_j59; exact J60 0 (by rw [if_neg q])
    have J55 : isGone cx p = true → Ev (tw_countOne_j55 N h k e σ) (fun r => Ex (Pw h e) σ r.2 ∧ TB r.2 h ∧ match mStep cx k (p, v) acc with
        | .inl e' => r.1 = 0 ∧ VH r.2 h e e'
        | .inr acc' => r.1 = 1 ∧ CoT r.2 h k acc' ∧ AccOk (n0 + 1) acc') := fun q => by
      unfold tw_countOne_j55; exact J60 1 (by rw [if_pos q])
    by_cases c4 : v.1 = 4
    · refine Ev.f (fun q => q c4) (Ev.g (dG he) ?_)
      rw [gv.2.2.1 (by omega) (by omega)]
      by_cases cr : v.2.1 = 1
      · have hq := hL.1
        refine Ev.f (fun q => q (gcmp_eq.mpr cr)) (Ev.g (by omega) ?_)
        rw [tn, hL.2.1]
        by_cases k4 : pK p = 4
        · refine Ev.g (by omega) (J55 ?_)
          unfold isGone; rw [decide_eq_true k4]; rfl
        · refine Ev.f (by omega) (Ev.g (by omega) ?_)
          by_cases k5 : pK p = 5
          · refine Ev.f (by omega) ?_
            unfold tw_isGone
            rw [hw, t_spotCell hN hs g hL hp, Option.bind_some]
            have eg : isGone cx p = decide (cxSpot cx p < 0) := by unfold isGone; rw [decide_eq_false k4, decide_eq_true k5]; rfl
            by_cases cg : cxSpot cx p < 0
            · rw [if_pos cg, if_neg (by decide), Option.bind_some]
              exact Ev.f (by decide) (J55 (by rw [eg, decide_eq_true cg]))
            · rw [if_neg cg, if_pos (by omega), Option.bind_some]
              exact Ev.g rfl (J59 (by rw [eg, decide_eq_false cg]; decide))
          · refine Ev.g (by omega) (J59 ?_)
            unfold isGone; rw [decide_eq_false k4, decide_eq_false k5]; exact Bool.false_ne_true
      · refine Ev.g (fun q => cr (gcmp_eq.mp q)) (J59 (fun q => cr ?_))
        rw [hg q]; rfl
    · exact Ev.g c4 (J59 (fun q => c4 (by rw [hg q]; rfl)))
  · refine Ev.g (by omega) (Ev.e t_wantsTruths ?_)
    have es : mStep cx k (p, v) acc = if (wantM k v).1 = wantK k then Sum.inr (acc ++ [(wantM k v).2.1]) else .inl (wantM k v) := by
      unfold mStep; rw [if_neg h6, if_neg c36]
    have J109 : ∀ (r : Int × gMem), (r.1 = if (wantM k v).1 = wantK k then 1 else 0) → HS h e σ r.2 (wantM k v) → Ev (tw_countOne_j109 N h k e r.1 r.2) (fun r => Ex (Pw h e) σ r.2 ∧ TB r.2 h ∧ match mStep cx k (p, v) acc with
        | .inl e' => r.1 = 0 ∧ VH r.2 h e e'
        | .inr acc' => r.1 = 1 ∧ CoT r.2 h k acc' ∧ AccOk (n0 + 1) acc') := by
      intro r h1 h2
      unfold tw_countOne_j109
      rw [es, h1]
      by_cases c : (wantM k v).1 = wantK k
      · rw [if_pos c, if_pos c]
        have hx : mL r.2 (h + 34) e = (wantM k v).2.1 := h2.2.2.2.2.1 (by rw [c]; unfold wantK; split <;> decide) (by rw [c]; unfold wantK; split <;> decide)
        have hb : -1000000000000000 ≤ (wantM k v).2.1 ∧ (wantM k v).2.1 ≤ 1000000000000000 := by
          have hh := h2.2.2.1
          generalize wantM k v = u at *
          unfold wantK at c
          split at c
          · have := (hh.k3 c).2; omega
          · exact (hh.k1 c).2
        refine Ev.f (by decide) (Ev.c (t_count he (co.hp h2.1) (ok.mono hn) hx hb.1 hb.2) (fun s2 _ q2 => Ev.g (by decide) (Ev.r ⟨(h2.1.mono (fun _ _ p => Hp.tw p)).tr (q2.1.mono (fun _ _ p => Gp.tw p)), (h2.2.1 tb).fp (q2.1.mono (fun _ _ p => p.f)), rfl, q2.2, ok.snoc hb.1 hb.2⟩)))
      · rw [if_neg c, if_neg c]
        exact Ev.g rfl (Ev.g (by decide) (Ev.r ⟨h2.1.mono (fun _ _ p => Hp.tw p), h2.2.1 tb, rfl, h2.2.2⟩))
    by_cases ct : k = 31 ∨ k = 32
    · rw [if_pos ct]
      have e1 : wantM k v = wantB v := by unfold wantM; rw [if_pos ct]
      have e2 : wantK k = 3 := by unfold wantK; rw [if_pos ct]
      refine Ev.f (by decide) (Ev.c (t_wantsTruth he gv) (fun r _ q => J109 r (by rw [e1, e2]; exact q.1) (by rw [e1]; exact q.2)))
    · rw [if_neg ct]
      have e1 : wantM k v = wantN v := by unfold wantM; rw [if_neg ct]
      have e2 : wantK k = 1 := by unfold wantK; rw [if_neg ct]
      refine Ev.g rfl (Ev.c (t_wantsNumber he gv) (fun r _ q => J109 r (by rw [e1, e2]; exact q.1) (by rw [e1]; exact q.2)))
theorem t_come {k : Nat} {acc : List Int} (hd : d < 200) (co : CoT σ h k acc) (ok : AccOk 2560 acc) (h1 : 31 ≤ k) (h2 : k ≤ 36) : Ev (tw_come h k d σ) (fun r => HS h d σ r (mCome k acc)) := by
  obtain ⟨g1, g2, g3, g4, g5⟩ := co
  have sb := ok.sum
  have lb := ok.1
  unfold tw_come mCome
  by_cases c31 : k = 31
  · rw [if_pos c31]
    refine Ev.f (by omega) ?_
    rw [g4]
    refine Ev.c (t_truth hd) (fun r _ q => Ev.r ?_)
    have e : decide ((if acc.all (fun x => decide (x = 1)) then (1 : Int) else 0) ≠ 0) = acc.all (fun x => decide (x = 1)) := by cases acc.all (fun x => decide (x = 1)) <;> rfl
    rw [e] at q; exact q
  · rw [if_neg c31]
    refine Ev.g (by omega) ?_
    by_cases c32 : k = 32
    · rw [if_pos c32]
      refine Ev.f (by omega) ?_
      rw [g5]
      refine Ev.c (t_truth hd) (fun r _ q => Ev.r ?_)
      have e : decide ((if acc.any (fun x => decide (x = 1)) then (1 : Int) else 0) ≠ 0) = acc.any (fun x => decide (x = 1)) := by cases acc.any (fun x => decide (x = 1)) <;> rfl
      rw [e] at q; exact q
    · rw [if_neg c32]
      refine Ev.g (by omega) ?_
      by_cases c36 : k = 36
      · rw [if_pos c36]
        refine Ev.f (by omega) ?_
        rw [g1]
        exact Ev.c (t_number hd (by omega)) (fun r _ q => Ev.r q)
      · rw [if_neg c36]
        refine Ev.g (by omega) ?_
        by_cases c33 : k = 33
        · rw [if_pos c33]
          refine Ev.f (by omega) ?_
          rw [g2]
          exact Ev.c (t_number hd (by omega)) (fun r _ q => Ev.r q)
        · rw [if_neg c33]
          refine Ev.g (by omega) ?_
          rw [g1]
          by_cases c0 : acc.length = 0
          · rw [if_pos c0]
            exact Ev.f (by omega) (Ev.c (t_error hd (by decide) (by decide)) (fun r _ q => Ev.r q))
          · rw [if_neg c0]
            refine Ev.g (by omega) ?_
            rw [g3 (fun q => c0 (by rw [q]; rfl))]
            by_cases c34 : k = 34
            · rw [if_pos c34, if_pos c34]
              refine Ev.c (t_number hd ?_) (fun r _ q => Ev.r q)
              have := mL_rng σ h 78
              rw [g3 (fun q => c0 (by rw [q]; rfl)), if_pos c34] at this
              exact this
            · rw [if_neg c34, if_neg c34]
              refine Ev.c (t_number hd ?_) (fun r _ q => Ev.r q)
              have := mL_rng σ h 78
              rw [g3 (fun q => c0 (by rw [q]; rfl)), if_neg c34] at this
              exact this
end TwEv4
