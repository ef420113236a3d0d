/-! ===== PHASE 2: the component's formulas: all args, truths ===== -/
section CoEv8
variable {N w u x n t nv : Nat} {σ σ' s : gMem} {v a b : Vl} {cx : Cx}
theorem AC.go' {q k c : Nat} {p : Pt} {ls : List Fm} {W : Nat → Nat → Nat → gMem → Option gMem} (A : AC σ x nv cx n q p ls) (hW : HC x nv cx n W) (hk : k < ls.length) (hc : c = chd σ q k) (ht : Tg x u t) (h3 : mI σ (x + 13) 3 = u) (hu : u + ls[k].length + 3 ≤ 700) : Ev (W c (x + 13) t σ) (fun r => EC x t u σ r (ev cx ls[k])) := by
  rw [hc]
  exact hW _ t u _ σ (A.2.2.2.2.2.2.1 k hk) (A.2.2.ver hk) A.1 A.2.1 ht h3 hu
/-- the i-th Worth of those from u on -/
def pw (x u i : Nat) : Nat := x + 29 + 2 * (u + i)
theorem pw_tg {i j : Nat} (h : i < j) : Tg x (u + j) (pw x u i) := by unfold Tg pw; omega
theorem c_workAll_l {q j : Nat} {p : Pt} {ls : List Fm} {W : Nat → Nat → Nat → gMem → Option gMem} {K : Int → gMem → Option (Int × gMem)} {Φ : Int × gMem → Prop} {σ0 : gMem} {ps : Int} (hW : HC x nv cx n W) (hN : 70 ≤ N) (h8 : ls.length ≤ 8) (ht : Tg x u t) (hu : u + ls.flatten.length + 4 ≤ 700)
    (hK : ∀ (s : gMem) (g : Int), Ey x (Pe x t u) σ0 s → AC s x nv cx n q p ls → CallF s q j (pA p) → mI s (x + 13) 3 = ((u + ls.length : Nat) : Int) → (∀ k (hk : k < ls.length), VW s (pw x u k) (ev cx ls[k])) →
      ((g = 1 ∧ (ps = 0 → firstErr (ls.map (fun y => (lab y, ev cx y))) = none)) ∨ (g = 0 ∧ ps = 0 ∧ ∃ e, firstErr (ls.map (fun y => (lab y, ev cx y))) = some e ∧ VW s t e)) → Ev (K g s) Φ) :
    ∀ (m i f : Nat) (s : gMem) (g : Int), i + m = ls.length → m < f → Ey x (Pe x t u) σ0 s → AC s x nv cx n q p ls → CallF s q j (pA p) → mI s (x + 13) 3 = ((u + i : Nat) : Int) → (∀ k (hk : k < ls.length), k < i → VW s (pw x u k) (ev cx ls[k])) →
      ((g = 1 ∧ (ps = 0 → firstErr (ls.map (fun y => (lab y, ev cx y))) = firstErr ((ls.drop i).map (fun y => (lab y, ev cx y))))) ∨ (g = 0 ∧ ps = 0 ∧ ∃ e, firstErr (ls.map (fun y => (lab y, ev cx y))) = some e ∧ VW s t e)) → Ev (x20_workAll_l6 N W q (x + 13) t ps K f g i s) Φ := by
  intro m
  induction m with
  | zero =>
    intro i f s g h1 h2 Y A cf h3 gv hg
    obtain ⟨f, rfl⟩ : ∃ j, f = j + 1 := ⟨f - 1, by omega⟩
    have hi : i = ls.length := by omega
    subst hi
    have hA := A.2.2.2.2.2.1
    unfold x20_workAll_l6
    refine Ev.g cf.1 (Ev.g cf.2.2.2.1 ?_)
    rw [cf.2.2.2.2, w32_i (by omega) (by omega)]
    refine Ev.g (by omega) (hK s g Y A cf h3 (fun k hk => gv k hk hk) ?_)
    rcases hg with ⟨a1, a2⟩ | a
    · refine Or.inl ⟨a1, fun c => ?_⟩
      rw [a2 c, List.drop_length]; rfl
    · exact Or.inr a
  | succ m ih =>
    intro i f s g h1 h2 Y A cf h3 gv hg
    obtain ⟨f, rfl⟩ : ∃ j, f = j + 1 := ⟨f - 1, by omega⟩
    have hi : i < ls.length := by omega
    have hA := A.2.2.2.2.2.1
    have fi := A.2.2.fit hi
    have zi := A.2.2.nz hi
    have dr : (ls.drop i).map (fun y => (lab y, ev cx y)) = (lab ls[i], ev cx ls[i]) :: (ls.drop (i + 1)).map (fun y => (lab y, ev cx y)) := by rw [List.drop_eq_getElem_cons hi, List.map_cons]
    have hti : Tg x (u + i) t := by unfold Tg at ht ⊢; omega
    unfold x20_workAll_l6
    refine Ev.g cf.1 (Ev.g cf.2.2.2.1 ?_)
    rw [cf.2.2.2.2, w32_i (by omega) (by omega)]
    refine Ev.f (by omega) (Ev.g A.1.1 (A.take hti h3 (by omega) (fun s2 Y2 A2 u2 _ k2 _ => ?_)))
    dsimp only
    have cf2 := cf.ey A.1 Y2
    have ew : x + 29 + 2 * (u + i) = pw x u i := rfl
    rw [ew, tn]
    have tw : Tg x (u + i + 1) (pw x u i) := by unfold Tg pw; omega
    refine Ev.g cf2.2.2.2.1 (Ev.g (by rw [cf2.2.2.2.2]; omega) (Ev.c (A2.go' (k := i) hW hi (cf2.ch i) tw u2 (by omega)) (fun s3 _ q3 => ?_)))
    have A3 := A2.pe tw (by omega) q3.1
    have cf3 := cf2.ey A2.1 q3.1
    have Y23 : Ey x (Pe x t u) s s3 := (Y2.mono (fun a k p => by unfold Pe at *; omega)).tr (q3.1.mono (fun a k p => by unfold Pe pw at *; omega))
    have gv3 : ∀ k (hk : k < ls.length), k < i + 1 → VW s3 (pw x u k) (ev cx ls[k]) := by
      intro k hk hlt
      by_cases e : k = i
      · subst e; exact q3.2.2
      · have a := k2 _ _ (pw_tg (x := x) (u := u) (show k < i by omega)) (gv k hk (by omega))
        exact a.pe q3.1 tw (pw_tg (by omega)) (by unfold pw; omega)
    have tne : t ≠ pw x u i := by unfold Tg at ht; unfold pw; omega
    have gt3 : ∀ e, VW s t e → VW s3 t e := fun e g => (k2 t e hti g).pe q3.1 tw (by unfold Tg at hti ⊢; omega) tne
    have J : ∀ (s4 : gMem) (g' : Int), Ex (Wp t) s3 s4 → ((g' = 1 ∧ (ps = 0 → firstErr (ls.map (fun y => (lab y, ev cx y))) = firstErr ((ls.drop (i + 1)).map (fun y => (lab y, ev cx y))))) ∨ (g' = 0 ∧ ps = 0 ∧ ∃ e, firstErr (ls.map (fun y => (lab y, ev cx y))) = some e ∧ VW s4 t e)) → Ev (x20_workAll_l6_j63 N W q (x + 13) t ps g' i (x20_workAll_l6 N W q (x + 13) t ps K f) K s4) Φ := by
      intro s4 g' X4 hg'
      unfold x20_workAll_l6_j63
      rw [inc32 (by omega)]
      have Y4 : Ey x (Pe x t u) s3 s4 := (X4.mono (fun _ _ p => p.pe)).y
      refine ih (i + 1) f s4 g' (by omega) (by omega) ((Y.tr Y23).tr Y4) (A3.pe ht (by omega) Y4) (cf3.ey A3.1 Y4) ?_ (fun k hk hlt => ?_) hg'
      · rw [X4.rI (by unfold Wp; unfold Tg at ht; omega), q3.2.1]; congr 1
      · exact (gv3 k hk hlt).ex X4 (fun k p => by unfold Wp pw at p; unfold Tg at ht; omega) (fun k p => by unfold Wp pw at p; unfold Tg at ht; omega)
    have ws := Tg.ws A3.1 ht (by omega)
    have us := Tg.ws A3.1 tw (by omega)
    rcases hg with ⟨a1, a2⟩ | ⟨a1, a2, e, a3, a4⟩
    · refine Ev.f (by omega) ?_
      by_cases c : ps = 0
      · refine Ev.f (fun q => q c) (Ev.g us.1 ?_)
        rw [c_failed us q3.2.2, Option.bind_some]
        by_cases e4 : (ev cx ls[i]).1 = 4
        · rw [if_pos e4]
          refine Ev.f (by decide) (Ev.g ws.1 (Ev.c (c_copy ws us q3.2.2 tne) (fun s4 _ q4 => J s4 0 q4.1 (Or.inr ⟨rfl, c, _, ?_, q4.2⟩))))
          rw [a2 c, dr, firstErr_cons, if_pos e4]
        · rw [if_neg e4]
          refine Ev.g rfl (J s3 g Ex.rf (Or.inl ⟨a1, fun _ => ?_⟩))
          rw [a2 c, dr, firstErr_cons, if_neg e4]
      · exact Ev.g c (J s3 g Ex.rf (Or.inl ⟨a1, fun q => absurd q c⟩))
    · exact Ev.g a1 (J s3 g Ex.rf (Or.inr ⟨a1, a2, e, a3, gt3 e a4⟩))
/-- what has come of truths -/
def allF (k : Nat) (acc : List Int) : Int := if k = 31 then (if acc.all (fun x => decide (x = 1)) then 1 else 0) else (if acc.any (fun x => decide (x = 1)) then 1 else 0)
theorem allF_snoc {k : Nat} {acc : List Int} {y : Int} : allF k (acc ++ [y]) = if k = 31 then (if allF k acc = 0 then 0 else if y = 1 then 1 else 0) else (if allF k acc ≠ 0 then 1 else if y = 1 then 1 else 0) := by
  unfold allF
  by_cases c : k = 31
  · rw [if_pos c, if_pos c, if_pos c, List.all_append]
    cases acc.all (fun x => decide (x = 1)) <;> by_cases e : y = 1 <;> simp [e]
  · rw [if_neg c, if_neg c, if_neg c, List.any_append]
    cases acc.any (fun x => decide (x = 1)) <;> by_cases e : y = 1 <;> simp [e]
/-- truths of an area's cells -/
theorem c_truths_a {k va u0 : Nat} {qa : Nat} {a1 a3 : Int} {cs : List Nat} {V : Nat → Vl} {W : Nat → Nat → Nat → gMem → Option gMem} {K : Int → Int → gMem → Option gMem} {Φ : gMem → Prop} {σ0 : gMem} {R : Vl ⊕ List Int} (hk : k = 31 ∨ k = 32) (ha1 : a1 = if k = 31 then 1 else 0) (ht : Tg x u t) (hu : u ≤ 700) (hv : va = x + 4 ∨ x + 1429 ≤ va)
    (hK : ∀ (s : gMem) (y g : Int), Ey x (Pe x t u) σ0 s → (∀ i, i < 9 ∨ 15 ≤ i → mI s (x + 13) i = mI σ0 (x + 13) i ∧ mL s (x + 13) i = mL σ0 (x + 13) i) → (∀ i j, x + 29 ≤ i → i ≠ t → i ≠ t + 1 → mI s i j = mI σ0 i j ∧ mL s i j = mL σ0 i j) → ((∃ acc, R = .inr acc ∧ y = allF k acc ∧ g = 1) ∨ (∃ e, R = .inl e ∧ g = 0 ∧ VW s t e)) → Ev (K y g s) Φ) :
    ∀ (m i f : Nat) (s : gMem) (acc : List Int), i + m = cs.length → m + 2 < f → Ey x (Pe x t u) σ0 s → WL s x → VV s va V → ArC s x va cs i → (∀ i, i < 9 ∨ 15 ≤ i → mI s (x + 13) i = mI σ0 (x + 13) i ∧ mL s (x + 13) i = mL σ0 (x + 13) i) → (∀ i j, x + 29 ≤ i → i ≠ t → i ≠ t + 1 → mI s i j = mI σ0 i j ∧ mL s i j = mL σ0 i j) → R = mArea k ((cs.drop i).map V) acc → Ev (x20_truths_l88 N W qa (x + 13) t a1 u0 a3 (x + 25) K f (allF k acc) 1 s) Φ := by
  intro m
  induction m with
  | zero =>
    intro i f s acc h1 h2 Y wl vv ar zo zp hR
    obtain ⟨f, rfl⟩ : ∃ j, f = j + 1 := ⟨f - 1, by omega⟩
    have hl := ar.len
    unfold x20_truths_l88
    refine Ev.f (by decide) (Ev.g wl.1 (Ev.c (c_next wl ar vv hv) (fun r _ q => ?_)))
    rw [q.1 (by omega)]
    refine Ev.g rfl (hK s _ _ Y zo zp (Or.inl ⟨acc, ?_, rfl, rfl⟩))
    rw [hR, List.drop_eq_nil_of_le (by omega)]; rfl
  | succ m ih =>
    intro i f s acc h1 h2 Y wl vv ar zo zp hR
    obtain ⟨f, rfl⟩ : ∃ j, f = j + 1 := ⟨f - 1, by omega⟩
    have hl := ar.len
    have hi : i < cs.length := by omega
    have dr : (cs.drop i).map V = V cs[i] :: (cs.drop (i + 1)).map V := by rw [List.drop_eq_getElem_cons hi, List.map_cons]
    rw [dr] at hR
    unfold mArea at hR
    unfold x20_truths_l88
    refine Ev.f (by decide) (Ev.g wl.1 (Ev.c (c_next wl ar vv hv) (fun r _ q => ?_)))
    obtain ⟨q1, q2, q3, q4, q5⟩ := q.2 hi
    have wl1 := wl.ey q2.y
    have cw1 := wl1.2.2.2.2.2.2.2.2.1
    have Y1 : Ey x (Pe x t u) s r.2 := (q2.mono (fun _ _ p => p.pe)).y
    have zo1 : ∀ i, i < 9 ∨ 15 ≤ i → mI r.2 (x + 13) i = mI σ0 (x + 13) i ∧ mL r.2 (x + 13) i = mL σ0 (x + 13) i := fun k hk => ⟨(q5 k (by omega)).1.trans (zo k hk).1, (q5 k (by omega)).2.trans (zo k hk).2⟩
    have zp1 : ∀ i j, x + 29 ≤ i → i ≠ t → i ≠ t + 1 → mI r.2 i j = mI σ0 i j ∧ mL r.2 i j = mL σ0 i j := fun i j a b c => ⟨by rw [q2.rI (by unfold Pn; omega)]; exact (zp i j a b c).1, by rw [q2.rL (by unfold Pn; omega)]; exact (zp i j a b c).2⟩
    refine Ev.f (by omega) (Ev.g cw1.1 ?_)
    rw [c_failed cw1 q3, Option.bind_some]
    by_cases c4 : (V cs[i]).1 = 4
    · rw [if_pos ⟨c4, by omega⟩] at hR
      rw [if_pos c4]
      have ws := Tg.ws wl1 ht hu
      refine Ev.f (by decide) (Ev.g ws.1 (Ev.c (c_copy ws cw1 q3 (by unfold Tg at ht; omega)) (fun s2 _ q6 => ?_)))
      obtain ⟨f, rfl⟩ : ∃ j, f = j + 1 := ⟨f - 1, by omega⟩
      unfold x20_truths_l88
      refine Ev.g rfl (hK s2 _ _ ((Y.tr Y1).tr (q6.1.mono (fun _ _ p => p.pe)).y) (fun k hk => ⟨by rw [q6.1.rI (by unfold Wp; unfold Tg at ht; omega)]; exact (zo1 k hk).1, by rw [q6.1.rL (by unfold Wp; unfold Tg at ht; omega)]; exact (zo1 k hk).2⟩) (fun i j a b c => ⟨by rw [q6.1.rI (by unfold Wp; omega)]; exact (zp1 i j a b c).1, by rw [q6.1.rL (by unfold Wp; omega)]; exact (zp1 i j a b c).2⟩) (Or.inr ⟨_, hR, rfl, q6.2⟩))
    · rw [if_neg (fun q => c4 q.1)] at hR
      rw [if_neg c4]
      refine Ev.g rfl ?_
      rw [q3.2.1]
      have go : ∀ (acc' : List Int), R = mArea k ((cs.drop (i + 1)).map V) acc' → Ev (x20_truths_l88 N W qa (x + 13) t a1 u0 a3 (x + 25) K f (allF k acc') 1 r.2) Φ := fun acc' hR' =>
        ih (i + 1) f r.2 acc' (by omega) (by omega) (Y.tr Y1) wl1 (vv.pe ht hu Y1 hv) q4 zo1 zp1 hR'
      have wk : wantK k = 3 := by unfold wantK; rw [if_pos hk]
      rw [wk] at hR
      by_cases c3 : (V cs[i]).1 = 3
      · rw [if_pos c3] at hR
        refine Ev.f (fun q => q c3) ?_
        rw [q3.2.2.2.1]
        have gg := go _ hR
        unfold x20_truths_l88_j171 x20_truths_l88_j152 x20_truths_l88_j176
        rw [allF_snoc] at gg
        rcases hk with c | c
        · rw [if_pos c] at gg ha1
          refine Ev.f (by omega) ?_
          by_cases z : allF k acc = 0
          · rw [if_pos z] at gg
            exact Ev.g z gg
          · rw [if_neg z] at gg
            refine Ev.f z ?_
            by_cases e1 : (V cs[i]).2.1 = 1
            · rw [if_pos e1] at gg
              exact Ev.f (fun q => q (gcmp_eq.mpr e1)) gg
            · rw [if_neg e1] at gg
              exact Ev.g (fun q => e1 (gcmp_eq.mp q)) gg
        · rw [if_neg (by omega)] at gg ha1
          refine Ev.g (by omega) ?_
          by_cases z : allF k acc = 0
          · rw [if_neg (show ¬ allF k acc ≠ 0 from fun q => q z)] at gg
            refine Ev.f (fun q => q z) ?_
            by_cases e1 : (V cs[i]).2.1 = 1
            · rw [if_pos e1] at gg
              exact Ev.f (fun q => q (gcmp_eq.mpr e1)) gg
            · rw [if_neg e1] at gg
              exact Ev.g (fun q => e1 (gcmp_eq.mp q)) gg
          · rw [if_pos (show allF k acc ≠ 0 from z)] at gg
            exact Ev.g z gg
      · rw [if_neg c3] at hR
        exact Ev.g c3 (go acc hR)
end CoEv8
