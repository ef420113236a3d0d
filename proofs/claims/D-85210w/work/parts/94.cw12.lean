/-! ===== PHASE 2: the component's formulas: AND, OR ===== -/
section CoEv9
variable {N w u x n t nv : Nat} {σ σ' s : gMem} {v a b : Vl} {cx : Cx}
/-- what stays while args are gone over -/
def SA (σ0 s : gMem) (x t u nv : Nat) (cx : Cx) (n q j : Nat) (p : Pt) (ls : List Fm) (i : Nat) : Prop :=
  Ey x (Pe x t u) σ0 s ∧ AC s x nv cx n q p ls ∧ CallF s q j (pA p) ∧ mI s (x + 13) 3 = ((u + ls.length : Nat) : Int) ∧ ∀ k (hk : k < ls.length), i ≤ k → VW s (pw x u k) (ev cx ls[k])
theorem SA.next {σ0 s s' : gMem} {q j i : Nat} {p : Pt} {ls : List Fm} (ht : Tg x u t) (hu : u ≤ 700) (g : SA σ0 s x t u nv cx n q j p ls i) (Y : Ey x (Pe x t u) s s') (h3 : mI s' (x + 13) 3 = mI s (x + 13) 3) (zp : ∀ k (_ : k < ls.length), i + 1 ≤ k → ∀ c, (mI s' (pw x u k) c = mI s (pw x u k) c ∧ mL s' (pw x u k) c = mL s (pw x u k) c) ∧ mI s' (pw x u k + 1) c = mI s (pw x u k + 1) c) : SA σ0 s' x t u nv cx n q j p ls (i + 1) := by
  obtain ⟨g1, g2, g3, g4, g5⟩ := g
  refine ⟨g1.tr Y, g2.pe ht hu Y, g3.ey g2.1 Y, by rw [h3]; exact g4, fun k hk hl => ?_⟩
  have a := g5 k hk (by omega)
  have z := zp k hk hl
  exact ⟨a.1, by rw [(z 0).1.1]; exact a.2.1, by rw [(z 1).1.1]; exact a.2.2.1, by rw [(z 2).1.2]; exact a.2.2.2.1, fun i hi => by rw [(z i).2]; exact a.2.2.2.2 i hi⟩
theorem nmk_tr : ∀ j, j < 18 → (nmk j = 31 ↔ j = 1) ∧ (nmk j = 32 ↔ j = 2) := by decide
theorem c_truths_l {q j k : Nat} {p : Pt} {ls : List Fm} {a1 : Int} {W : Nat → Nat → Nat → gMem → Option gMem} {K : Int → Int → gMem → Option gMem} {Φ : gMem → Prop} {σ0 : gMem} {R : Vl ⊕ List Int} (hN : 400 ≤ N) (hk : k = 31 ∨ k = 32) (ha1 : a1 = if k = 31 then 1 else 0) (h8 : ls.length ≤ 8) (ht : Tg x u t) (hu : u + ls.length ≤ 700) (ne : ∀ j (hj : j < ls.length), (ev cx ls[j]).1 ≠ 4)
    (hK : ∀ (s : gMem) (y g : Int) (i : Nat), SA σ0 s x t u nv cx n q j p ls i → ((∃ acc, R = .inr acc ∧ y = allF k acc ∧ g = 1) ∨ (∃ e, R = .inl e ∧ g = 0 ∧ VW s t e)) → Ev (K y g s) Φ) :
    ∀ (m i f : Nat) (s : gMem) (acc : List Int), i + m = ls.length → m + 1 < f → SA σ0 s x t u nv cx n q j p ls i → R = mArgs cx k ((ls.drop i).map (fun y => (lab y, ev cx y))) acc → Ev (x20_truths_l37 N W q (x + 13) t a1 u K f (allF k acc) 1 i s) Φ := by
  intro m
  induction m with
  | zero =>
    intro i f s acc h1 h2 g hR
    obtain ⟨f, rfl⟩ : ∃ j, f = j + 1 := ⟨f - 1, by omega⟩
    obtain ⟨g1, g2, g3, g4, g5⟩ := id g
    have hA := g2.2.2.2.2.2.1
    unfold x20_truths_l37
    refine Ev.f (by decide) (Ev.g g3.1 (Ev.g g3.2.2.2.1 ?_))
    rw [g3.2.2.2.2, w32_i (by omega) (by omega)]
    refine Ev.g (by omega) (hK s _ _ i g (Or.inl ⟨acc, ?_, rfl, rfl⟩))
    rw [hR, List.drop_eq_nil_of_le (by omega)]; rfl
  | succ m ih =>
    intro i f s acc h1 h2 g hR
    obtain ⟨f, rfl⟩ : ∃ j, f = j + 1 := ⟨f - 1, by omega⟩
    obtain ⟨g1, g2, g3, g4, g5⟩ := id g
    have hi : i < ls.length := by omega
    have hA := g2.2.2.2.2.2.1
    have dr : (ls.drop i).map (fun y => (lab y, ev cx y)) = (lab ls[i], ev cx ls[i]) :: (ls.drop (i + 1)).map (fun y => (lab y, ev cx y)) := by rw [List.drop_eq_getElem_cons hi, List.map_cons]
    rw [dr] at hR
    unfold mArgs at hR
    have sp := g2.2.2.2.2.2.2.1 i hi
    obtain ⟨L, O⟩ := sp.lab
    have kd := L.kind
    have ver := isp_verL sp (g2.2.2.ver hi)
    have wl := g2.1
    have ws := Tg.ws wl ht (by omega)
    unfold x20_truths_l37
    refine Ev.f (by decide) (Ev.g g3.1 (Ev.g g3.2.2.2.1 ?_))
    rw [g3.2.2.2.2, w32_i (by omega) (by omega), tn, g3.ch]
    refine Ev.f (by omega) (Ev.g (by omega) (Ev.g (Or.inr kd.2.2.2) ?_))
    -- behind one argument
    have J : ∀ (y gd : Int) (s2 : gMem), SA σ0 s2 x t u nv cx n q j p ls (i + 1) → (match mStep cx k (lab ls[i], ev cx ls[i]) acc with
        | .inl e => gd = 0 ∧ VW s2 t e
        | .inr acc' => gd = 1 ∧ y = allF k acc') → Ev (x20_truths_l37_j266 N W q (x + 13) t a1 u y gd i (x20_truths_l37 N W q (x + 13) t a1 u K f) K s2) Φ := by
      intro y gd s2 g2' hm
      unfold x20_truths_l37_j266
      rw [inc32 (by omega)]
      cases hst : mStep cx k (lab ls[i], ev cx ls[i]) acc with
      | inl e =>
        rw [hst] at hm hR
        obtain ⟨f, rfl⟩ : ∃ j, f = j + 1 := ⟨f - 1, by omega⟩
        unfold x20_truths_l37
        exact Ev.g hm.1 (hK s2 y gd (i + 1) g2' (Or.inr ⟨e, hR, hm.1, hm.2⟩))
      | inr acc' =>
        rw [hst] at hm hR
        rw [hm.1, hm.2]
        exact ih (i + 1) f s2 acc' (by omega) (by omega) g2' hR
    by_cases k6 : pK (lab ls[i]) = 6
    · have t17 := kd.2.1.mpr k6
      have pv := O.ver
      refine Ev.g t17 (Ev.g (by omega) (Ev.g (Or.inr t17) (Ev.g wl.1 (Ev.c (c_opens (by omega) wl g2.2.1 ws L O t17 ver (by unfold Tg at ht; omega)) (fun r _ q1 => ?_)))))
      cases hcs : cxArea cx (lab ls[i]) with
      | none =>
        rw [hcs] at q1
        obtain ⟨r0, q7⟩ := q1
        have es : mStep cx k (lab ls[i], ev cx ls[i]) acc = .inl (vErr 1) := by unfold mStep; rw [if_pos k6, hcs]
        obtain ⟨N', rfl⟩ : ∃ j, N = j + 1 := ⟨N - 1, by omega⟩
        rw [r0]
        unfold x20_truths_l88
        refine Ev.g rfl (J _ 0 r.2 (g.next ht (by omega) (q7.1.mono (fun _ _ p => p.pe)).y (by rw [q7.1.rI (by unfold Wp; unfold Tg at ht; omega)]) (fun k _ _ c => ⟨⟨by rw [q7.1.rI (by unfold Wp pw; unfold Tg at ht; omega)], by rw [q7.1.rL (by unfold Wp pw; unfold Tg at ht; omega)]⟩, by rw [q7.1.rI (by unfold Wp pw; unfold Tg at ht; omega)]⟩)) ?_)
        rw [es]; exact ⟨rfl, q7.2⟩
      | some cs =>
        rw [hcs] at q1
        obtain ⟨r1, Y6, ar⟩ := q1
        have YP : Ey x (Pe x t u) s r.2 := Y6.mono (fun a k p => Or.inl p.1)
        have wl6 := wl.ey YP
        obtain ⟨-, -, hv, vv⟩ := g2.2.1.2.2.2.2 _ pv.1 ver
        have vv6 := vv.pe (t := t) (u := u) ht (by omega) YP hv
        have hl := ar.len
        rw [r1, wl6.2.2.2.1]
        refine c_truths_a (σ0 := r.2) (R := mArea k (cs.map (cx.2 (pW (lab ls[i])))) acc) (V := cx.2 (pW (lab ls[i]))) (cs := cs) hk ha1 ht (by omega) hv (fun s2 y gd Y7 zo zp hh => ?_) cs.length 0 N r.2 acc (by omega) (by omega) Ey.rf wl6 vv6 ar (fun _ _ => ⟨rfl, rfl⟩) (fun _ _ _ _ _ => ⟨rfl, rfl⟩) (by rw [List.drop_zero])
        have es : mStep cx k (lab ls[i], ev cx ls[i]) acc = mArea k (cs.map (cx.2 (pW (lab ls[i])))) acc := by unfold mStep; rw [if_pos k6, hcs]
        refine J y gd s2 (g.next ht (by omega) (YP.tr Y7) (by rw [(zo 3 (by omega)).1, Y6.rI (by omega)]) (fun k _ _ c => ?_)) ?_
        · have z1 := zp (pw x u k) c (by unfold pw; omega) (by unfold pw; unfold Tg at ht; omega) (by unfold pw; unfold Tg at ht; omega)
          have z2 := zp (pw x u k + 1) c (by unfold pw; omega) (by unfold pw; unfold Tg at ht; omega) (by unfold pw; unfold Tg at ht; omega)
          exact ⟨⟨by rw [z1.1, Y6.rI (by unfold pw; omega)], by rw [z1.2, Y6.rL (by unfold pw; omega)]⟩, by rw [z2.1, Y6.rI (by unfold pw; omega)]⟩
        · rw [es]
          rcases hh with ⟨acc', e1, e2, e3⟩ | ⟨e, e1, e2, e3⟩
          · rw [e1]; exact ⟨e3, e2⟩
          · rw [e1]; exact ⟨e2, e3⟩
    · have epw : x + 29 + 2 * (u + i) = pw x u i := rfl
      have eui : ((u : Int) + (i : Int)).toNat = u + i := by omega
      have us : WS s (pw x u i) := wl.2.2.2.2.2.2.2.2.2.2.1 (u + i) (by omega)
      have tne : t ≠ pw x u i := by unfold Tg at ht; unfold pw; omega
      refine Ev.f (fun e => k6 (kd.2.1.mp e)) (Ev.g wl.1 ?_)
      rw [wl.2.2.1, eui, wl.2.2.2.2.2.2.2.1 (u + i) (by omega), epw]
      refine Ev.g wl.2.2.2.2.2.1 (Ev.g (by rw [wl.2.2.2.2.2.2.1]; omega) (Ev.g us.1 (Ev.c (c_wantTruth us (g5 i hi (Nat.le_refl i))) (fun r _ q1 => ?_))))
      have es : mStep cx k (lab ls[i], ev cx ls[i]) acc = if (wantB (ev cx ls[i])).1 = 3 then Sum.inr (acc ++ [(wantB (ev cx ls[i])).2.1]) else .inl (wantB (ev cx ls[i])) := by
        have e1 : wantM k (ev cx ls[i]) = wantB (ev cx ls[i]) := by unfold wantM; rw [if_pos hk]
        have e2 : wantK k = 3 := by unfold wantK; rw [if_pos hk]
        unfold mStep; rw [if_neg k6, if_neg (by omega), e1, e2]
      have g' : SA σ0 r.2 x t u nv cx n q j p ls (i + 1) := g.next ht (by omega) (q1.2.1.mono (fun a k p => by unfold Wp pw at p; unfold Pe; omega)).y (by rw [q1.2.1.rI (by unfold Wp pw; omega)]) (fun k _ _ c => ⟨⟨by rw [q1.2.1.rI (by unfold Wp pw; omega)], by rw [q1.2.1.rL (by unfold Wp pw; omega)]⟩, by rw [q1.2.1.rI (by unfold Wp pw; omega)]⟩)
      have us1 := us.ex q1.2.1
      have ws1 := ws.ex q1.2.1
      rw [q1.1]
      by_cases w1 : (wantB (ev cx ls[i])).1 = 3
      · rw [if_pos w1] at es ⊢
        refine Ev.g (by decide) ?_
        rw [q1.2.2.2.2.2.1]
        have gg : ∀ y : Int, y = allF k (acc ++ [(wantB (ev cx ls[i])).2.1]) → Ev (x20_truths_l37_j266 N W q (x + 13) t a1 u y 1 i (x20_truths_l37 N W q (x + 13) t a1 u K f) K r.2) Φ := fun y hy => J y 1 r.2 g' (by rw [es]; exact ⟨rfl, hy⟩)
        unfold x20_truths_l37_j259 x20_truths_l37_j240 x20_truths_l37_j264
        rcases hk with c | c
        · rw [if_pos c] at ha1
          refine Ev.f (by omega) ?_
          by_cases z : allF k acc = 0
          · exact Ev.g z (gg 0 (by rw [allF_snoc, if_pos c, if_pos z]))
          · refine Ev.f z ?_
            by_cases e1 : (wantB (ev cx ls[i])).2.1 = 1
            · exact Ev.f (fun q => q (gcmp_eq.mpr e1)) (gg 1 (by rw [allF_snoc, if_pos c, if_neg z, if_pos e1]))
            · exact Ev.g (fun q => e1 (gcmp_eq.mp q)) (gg 0 (by rw [allF_snoc, if_pos c, if_neg z, if_neg e1]))
        · have c' : ¬ k = 31 := by omega
          rw [if_neg c'] at ha1
          refine Ev.g (by omega) ?_
          by_cases z : allF k acc = 0
          · refine Ev.f (fun q => q z) ?_
            by_cases e1 : (wantB (ev cx ls[i])).2.1 = 1
            · exact Ev.f (fun q => q (gcmp_eq.mpr e1)) (gg 1 (by rw [allF_snoc, if_neg c', if_neg (show ¬ allF k acc ≠ 0 from fun q => q z), if_pos e1]))
            · exact Ev.g (fun q => e1 (gcmp_eq.mp q)) (gg 0 (by rw [allF_snoc, if_neg c', if_neg (show ¬ allF k acc ≠ 0 from fun q => q z), if_neg e1]))
          · exact Ev.g z (gg 1 (by rw [allF_snoc, if_neg c', if_pos (show allF k acc ≠ 0 from z)]))
      · rw [if_neg w1] at es ⊢
        refine Ev.f (fun q => q rfl) (Ev.g ws1.1 (Ev.c (c_copy ws1 us1 q1.2.2 tne) (fun s2 _ q2 => ?_)))
        refine J _ 0 s2 ?_ (by rw [es]; exact ⟨rfl, q2.2⟩)
        obtain ⟨b1, b2, b3, b4, b5⟩ := g'
        have Y2 : Ey x (Pe x t u) r.2 s2 := (q2.1.mono (fun _ _ p => p.pe)).y
        exact ⟨b1.tr Y2, b2.pe ht (by omega) Y2, b3.ey b2.1 Y2, by rw [q2.1.rI (by unfold Wp; unfold Tg at ht; omega)]; exact b4, fun k hk hl => (b5 k hk hl).ex q2.1 (fun c p => by unfold Wp pw at p; unfold Tg at ht; omega) (fun c p => by unfold Wp pw at p; unfold Tg at ht; omega)⟩
theorem firstErr_none : ∀ (ls : List Fm), firstErr (ls.map (fun y => (lab y, ev cx y))) = none → ∀ j (hj : j < ls.length), (ev cx ls[j]).1 ≠ 4 := by
  intro ls
  induction ls with
  | nil => intro _ j hj; simp at hj
  | cons l ls ih =>
    intro h j hj
    rw [List.map_cons, firstErr_cons] at h
    by_cases c : (ev cx l).1 = 4
    · rw [if_pos c] at h; cases h
    · rw [if_neg c] at h
      cases j with
      | zero => exact c
      | succ j => exact ih h j (by simpa using hj)
theorem mCome_tr {k : Nat} {acc : List Int} (hk : k = 31 ∨ k = 32) : mCome k acc = vIs (decide (allF k acc ≠ 0)) := by
  unfold mCome allF
  rcases hk with c | c
  · rw [if_pos c, if_pos c]; cases acc.all (fun x => decide (x = 1)) <;> rfl
  · rw [if_neg (by omega), if_pos c, if_neg (by omega)]; cases acc.any (fun x => decide (x = 1)) <;> rfl
theorem c_truths {q j : Nat} {p : Pt} {ls : List Fm} {W : Nat → Nat → Nat → gMem → Option gMem} (A : AC σ x nv cx n q p ls) (hW : HC x nv cx n W) (hN : 400 ≤ N) (cf : CallF σ q j (pA p)) (hk : pK p = nmk j) (hj : j = 1 ∨ j = 2) (ht : Tg x u t) (h3 : mI σ (x + 13) 3 = u) (hu : u + ls.flatten.length + 4 ≤ 700) : Ev (x20_truths N W q (x + 13) t σ) (fun r => EC x t u σ r (evMany cx (pK p) (ls.map (fun y => (lab y, ev cx y))))) := by
  have kr : pK p = 31 ∨ pK p = 32 := by rw [hk]; rcases hj with e | e <;> rw [e]; exact Or.inl rfl; exact Or.inr rfl
  have h8 := A.2.2.2.2.1.le
  have hA := A.2.2.2.2.2.1
  have hlen : ls.length ≤ ls.flatten.length := by
    rcases Nat.eq_zero_or_pos ls.length with e | e
    · omega
    · have := A.2.2.fit (i := ls.length - 1) (by omega)
      have := A.2.2.nz (i := ls.length - 1) (by omega)
      omega
  have J : ∀ t0 : Int, (t0 = if pK p = 31 then 1 else 0) → Ev (x20_truths_j15 N W q (x + 13) t t0 σ) (fun r => EC x t u σ r (evMany cx (pK p) (ls.map (fun y => (lab y, ev cx y))))) := by
    intro t0 ht0
    unfold x20_truths_j15 x20_workAll
    refine Ev.g A.1.1 (Ev.g cf.1 ?_)
    rw [h3]
    have wa := c_workAll_l (N := N) (x := x) (u := u) (t := t) (nv := nv) (n := n) (cx := cx) (q := q) (j := j) (p := p) (ls := ls) (W := W) (K := fun y15 s16 => if y15 = 0 ∨ y15 = 1 then some (y15, s16) else none) (ps := 0) (σ0 := σ)
      (Φ := fun r => SA σ r.2 x t u nv cx n q j p ls 0 ∧ ((r.1 = 1 ∧ firstErr (ls.map (fun y => (lab y, ev cx y))) = none) ∨ (r.1 = 0 ∧ ∃ e, firstErr (ls.map (fun y => (lab y, ev cx y))) = some e ∧ VW r.2 t e)))
      hW (by omega) (by omega) ht hu (fun s g Y A' cf' u' gv hg => by
        refine Ev.g (by rcases hg with a | a <;> omega) (Ev.r ⟨⟨Y, A', cf', u', fun k hk _ => gv k hk⟩, ?_⟩)
        rcases hg with ⟨a1, a2⟩ | ⟨a1, a2, a3⟩
        · exact Or.inl ⟨a1, a2 rfl⟩
        · exact Or.inr ⟨a1, a3⟩) ls.length 0 N σ 1 (by omega) (by omega) Ey.rf A cf (by rw [h3]; rfl) (fun k _ hl => by omega) (Or.inl ⟨rfl, fun _ => by rw [List.drop_zero]⟩)
    refine Ev.c wa (fun r _ q1 => ?_)
    obtain ⟨sa, hg⟩ := q1
    have F : ∀ (s : gMem) (y g : Int) (i : Nat), SA σ s x t u nv cx n q j p ls i → ((∃ acc, mArgs cx (pK p) (ls.map (fun y => (lab y, ev cx y))) [] = .inr acc ∧ firstErr (ls.map (fun y => (lab y, ev cx y))) = none ∧ y = allF (pK p) acc ∧ g = 1) ∨ (∃ e, evMany cx (pK p) (ls.map (fun y => (lab y, ev cx y))) = e ∧ g = 0 ∧ VW s t e)) → Ev (x20_truths_j272 N W (x + 13) t u y g s) (fun r => EC x t u σ r (evMany cx (pK p) (ls.map (fun y => (lab y, ev cx y))))) := by
      intro s y g i sa hh
      obtain ⟨b1, b2, b3, b4, b5⟩ := sa
      have ws := Tg.ws b2.1 ht (by omega)
      unfold x20_truths_j272
      have R : ∀ (s2 : gMem) (v : Vl), Ex (Wp t) s s2 → VW s2 t v → EC x t u σ (wI s2 (x + 13) 3 u) v := by
        intro s2 v X g
        have X2 : Ex (fun a _ => a = x + 13) s2 (wI s2 (x + 13) 3 (u : Int)) := Ex.I (P := fun a _ => a = x + 13) Ex.rf rfl
        refine ⟨(b1.tr (X.mono (fun _ _ p => p.pe)).y).tr (X2.mono (fun a k p => Or.inl p)).y, by rw [mI_wI, if_pos ⟨rfl, rfl⟩, w32_i (by omega) (by omega)], ?_⟩
        exact g.ex X2 (fun k p => by unfold Tg at ht; omega) (fun k p => by unfold Tg at ht; omega)
      rcases hh with ⟨acc, e1, e0, e2, e3⟩ | ⟨e, e1, e2, e3⟩
      · have ee : evMany cx (pK p) (ls.map (fun y => (lab y, ev cx y))) = vIs (decide (allF (pK p) acc ≠ 0)) := by
          unfold evMany
          rw [if_neg (by omega), e0]
          dsimp only
          rw [e1]
          exact mCome_tr kr
        refine Ev.f (by omega) (Ev.g ws.1 ?_)
        rw [e2, ee]
        refine Ev.c (c_is ws) (fun s2 _ q2 => ?_)
        have wl2 := b2.1.ey q2.1.y
        exact Ev.g wl2.1 (Ev.l (Ev.r (R s2 _ q2.1 q2.2)))
      · rw [e1]
        exact Ev.g e2 (Ev.g b2.1.1 (Ev.l (Ev.r (R s _ Ex.rf e3))))
    rcases hg with ⟨a1, a2⟩ | ⟨a1, e, a2, a3⟩
    · rw [a1]
      have e0 : t0 = allF (pK p) [] := by
        rw [ht0]; unfold allF; rfl
      rw [show (t0 : Int) = allF (pK p) [] from e0]
      refine c_truths_l (σ0 := σ) (R := mArgs cx (pK p) (ls.map (fun y => (lab y, ev cx y))) []) (n := n) (j := j) (p := p) (nv := nv) hN kr (by rw [← e0]; exact ht0) (by omega) ht (by omega) (firstErr_none ls a2) (fun s y g i sa hh => F s y g i sa ?_) ls.length 0 N r.2 [] (by omega) (by omega) sa (by rw [List.drop_zero])
      rcases hh with ⟨acc, e1, e2, e3⟩ | ⟨e, e1, e2, e3⟩
      · exact Or.inl ⟨acc, e1, a2, e2, e3⟩
      · refine Or.inr ⟨e, ?_, e2, e3⟩
        unfold evMany
        rw [if_neg (by omega), a2]
        dsimp only
        rw [e1]
    · obtain ⟨N', rfl⟩ : ∃ j, N = j + 1 := ⟨N - 1, by omega⟩
      rw [a1]
      unfold x20_truths_l37
      refine Ev.g rfl (F r.2 _ 0 0 sa (Or.inr ⟨e, ?_, rfl, a3⟩))
      unfold evMany
      rw [if_neg (by omega), a2]
  have nt := nmk_tr j cf.2.1
  unfold x20_truths
  refine Ev.g cf.1 ?_
  by_cases c1 : j = 1
  · exact Ev.f (fun e => e ((cf.is A.2.1.2.2.2.1 (by decide)).mpr c1)) (J 1 (by rw [if_pos (by rw [hk]; exact nt.1.mpr c1)]))
  · exact Ev.g (fun e => c1 ((cf.is A.2.1.2.2.2.1 (by decide)).mp e)) (J 0 (by rw [if_neg (by rw [hk]; exact fun e => c1 (nt.1.mp e))]))
end CoEv9
