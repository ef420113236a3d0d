/-! ===== PHASE 2: the component's formulas: searches, args worked out ===== -/
section CoEv7
variable {N w u x n t nv : Nat} {σ σ' s : gMem} {v a b : Vl} {cx : Cx}
theorem c_alike {q j m va : Nat} {cs : List Nat} {V : Nat → Vl} {key : Vl} (hN : 400 ≤ N) (wl : WL σ x) (ks : KS σ) (kn : KN σ) (cf : CallF σ q j m) (hj : j = 12 ∨ j = 14) (hw : w = x + 29 + 2 * u) (hu : u + 2 < 700) (ht : Tg x u t) (h3 : mI σ (x + 13) 3 = ((u + 1 : Nat) : Int)) (hv : va = x + 4 ∨ x + 1429 ≤ va) (vv : VV σ va V) (ar : ArC σ x va cs 0) (gk : VW σ w key) : Ev (x20_alike N q (x + 13) w t σ) (fun r => Ey x (Pe x t u) σ r ∧ mI r (x + 13) 3 = ((u + 1 : Nat) : Int) ∧ VW r t (if j = 14 then vBe ((cs.map V).countP (likeV key)) else if firstLike key (cs.map V) 0 = 0 then vErr 7 else vBe (firstLike key (cs.map V) 0))) := by
  have ht1 : Tg x (u + 1) w := Tg.new w hw
  unfold x20_alike
  refine Ev.g wl.1 (Ev.c (c_take wl h3 (by omega)) (fun r _ q => ?_))
  obtain ⟨q1, q2, q3, q4, q5⟩ := q
  have ew : x + 29 + 2 * (u + 1) = x + 31 + 2 * u := by omega
  rw [ew] at q1 q2 q4
  have Y2 : Ex (Pe x t u) σ r.2 := q2.mono (fun a k p => by unfold Pe; omega)
  have wl2 := wl.ey Y2.y
  have X0 : Ex (Pe x (x + 31 + 2 * u) (u + 2)) σ r.2 := q2.mono (fun a k p => by unfold Pe; omega)
  have tg2 : Tg x (u + 2) (x + 31 + 2 * u) := Tg.new (u := u + 1) _ (by omega)
  have ks2 : KS r.2 := ks.ex Y2 (fun a k p => by have := Pe.tag wl ht (by omega) p; omega)
  have vv2 := vv.pe (t := t) (u := u) ht (by omega) Y2.y hv
  have gk2 : VW r.2 w key := gk.ex q2 (fun k p => by omega) (fun k p => by omega)
  have ar2 : ArC r.2 x va cs 0 := ar.same (by rw [q2.rR]) (fun k h1 h2 => (q5 k (by omega)).1)
  rw [q1]
  refine c_alike_l (qa := q) (σ0 := r.2) (V := V) (cs := cs) (va := va) (key := key) (by omega) hw rfl hu ht hv (fun s c f X hc hf bc bf zo => ?_) cs.length 0 N r.2 0 0 (by omega) (by have := ar.len; omega) Ex.rf wl2 ks2 vv2 ar2 gk2 (Nat.le_refl 0) (Nat.le_refl 0) (by rw [List.drop_zero]; omega) (by rw [if_neg (fun q => q rfl), List.drop_zero]) (fun k _ => ⟨rfl, rfl⟩)
  have XS : Ex (Pe x t u) r.2 s := X.mono (fun a k p => by unfold Pl at p; unfold Pe; omega)
  have wls := wl2.ey XS.y
  have cfs := (cf.ey wl Y2.y).ey wl2 XS.y
  have kns : KN s := by
    intro k hk
    have h := kn k hk
    have np : ∀ i, ¬ Pe x t u (mR σ 0 k) i := fun i p => by have e := Pe.tag wl ht (by omega) p; omega
    rw [XS.rR, XS.rT, Y2.rR, Y2.rT, XS.rI (np _), Y2.rI (np _)]; exact h
  have wss := Tg.ws wls ht (by omega)
  have GV : ∀ (s4 : gMem) (v : Vl), HSw t s s4 v → Ev (if mT s4 (x + 13) = 3 then (x3_give (x + 13) s4).bind (fun r => some r) else none) (fun r => Ey x (Pe x t u) σ r ∧ mI r (x + 13) 3 = ((u + 1 : Nat) : Int) ∧ VW r t v) := by
    intro s4 v q4
    have wl4 := wls.ey q4.1.y
    have e3 : mI s4 (x + 13) 3 = ((u + 1 + 1 : Nat) : Int) := by rw [q4.1.rI (by unfold Wp; unfold Tg at ht; omega), (zo 3 (by decide)).1]; exact q3
    refine Ev.g wl4.1 (Ev.c (c_give wl4 e3 (by omega)) (fun r _ q5 => Ev.r ⟨?_, q5.2, ?_⟩))
    · exact (((Y2.tr XS).tr (q4.1.mono (fun _ _ p => p.pe))).tr (q5.1.mono (fun a k p => Or.inl p.1))).y
    · exact q4.2.ex q5.1 (fun k p => by unfold Tg at ht; omega) (fun k p => by unfold Tg at ht; omega)
  refine Ev.g cfs.1 ?_
  rw [← hc, ← hf]
  by_cases c14 : j = 14
  · rw [if_pos c14]
    exact Ev.f (fun e => e ((cfs.is kns (by decide)).mpr c14)) (Ev.g wss.1 (Ev.c (c_be wss (by omega)) (fun s4 _ q4 => GV s4 _ q4)))
  · rw [if_neg c14]
    refine Ev.g (fun e => c14 ((cfs.is kns (by decide)).mp e)) ?_
    by_cases f0 : f = 0
    · rw [if_pos f0]
      exact Ev.f (by omega) (Ev.g wss.1 (Ev.c (c_fail wss (by decide) (by decide)) (fun s4 _ q4 => GV s4 _ q4)))
    · rw [if_neg f0]
      exact Ev.g (by omega) (Ev.g wss.1 (Ev.c (c_be wss (by omega)) (fun s4 _ q4 => GV s4 _ q4)))
theorem isp_verL {q : Nat} {l : Fm} (sp : IsP σ n q l) (hv : ∀ z ∈ l, pW z < nv) : pW (lab l) < nv := by
  cases n with
  | zero => exact sp.elim
  | succ n =>
    obtain ⟨p', ls', e, -⟩ := sp
    rw [e, lab_app]
    exact hv _ (by rw [e]; exact List.mem_append_right _ List.mem_cons_self)
theorem nmk_look : ∀ j, (nmk j = 45 ↔ j = 13) ∧ (nmk j = 46 ↔ j = 12) ∧ (nmk j = 47 ↔ j = 14) ∨ 18 ≤ j := by
  intro j
  by_cases h : j < 18
  · exact Or.inl ((by decide : ∀ j, j < 18 → (nmk j = 45 ↔ j = 13) ∧ (nmk j = 46 ↔ j = 12) ∧ (nmk j = 47 ↔ j = 14)) j h)
  · exact Or.inr (by omega)
theorem c_search {q j : Nat} {p : Pt} {ls : List Fm} {W : Nat → Nat → Nat → gMem → Option gMem} (A : AC σ x nv cx n q p ls) (hW : HC x nv cx n W) (hN : 400 ≤ N) (cf : CallF σ q j (pA p)) (hk : pK p = nmk j) (hj : j = 12 ∨ j = 13 ∨ j = 14) (ht : Tg x u t) (h3 : mI σ (x + 13) 3 = u) (hu : u + ls.flatten.length + 4 ≤ 700) (ia ik : Nat) (hi : (j = 12 ∧ ia = 1 ∧ ik = 0) ∨ (j ≠ 12 ∧ ia = 0 ∧ ik = 1)) : Ev (x20_search N W q (x + 13) t σ) (fun r => EC x t u σ r (evLook cx (pK p) (xp (ls.map (fun y => (lab y, ev cx y))) ia) (xv (ls.map (fun y => (lab y, ev cx y))) ik))) := by
  have nk : (nmk j = 45 ↔ j = 13) ∧ (nmk j = 46 ↔ j = 12) ∧ (nmk j = 47 ↔ j = 14) := by
    rcases nmk_look j with h | h
    · exact h
    · omega
  have kr : 45 ≤ pK p ∧ pK p ≤ 47 := by omega
  have cn := A.cnt (by omega)
  have ma := mostA_2 (k := pK p) (by omega)
  have hl : ls.length = 2 := by omega
  have ha : ia < ls.length := by omega
  have hik : ik < ls.length := by omega
  have hA := A.2.2.2.2.2.1
  have fk := A.2.2.fit hik
  have fz := A.2.2.nz hik
  have fl : 2 ≤ ls.flatten.length := by have := A.2.2.fit (i := 1) (by omega); have := A.2.2.nz (i := 1) (by omega); omega
  have spa := A.2.2.2.2.2.2.1 ia ha
  obtain ⟨L, O⟩ := spa.lab
  have ver := isp_verL spa (A.2.2.ver ha)
  rw [xv_at hik, xp_at ha]
  have J46 : ∀ (s2 : gMem) (t1 : Nat), t1 = mR s2 q 1 → Ey x (Pe x t u) σ s2 → AC s2 x nv cx n q p ls → mI s2 (x + 13) 3 = ((u + 1 : Nat) : Int) → Ev (x20_search_j46 N W q (x + 13) t (chd σ q ia) (x + 29 + 2 * u) ik t1 s2) (fun r => EC x t u σ r (evLook cx (pK p) (lab ls[ia]) (ev cx ls[ik]))) := by
    intro s2 t1 e1 Y2 A2 u2
    have cf2 := cf.ey A.1 Y2
    have tw : Tg x (u + 1) (x + 29 + 2 * u) := Tg.new _ rfl
    have tne : t ≠ x + 29 + 2 * u := by unfold Tg at ht; omega
    unfold x20_search_j46
    rw [e1, tn]
    refine Ev.g cf2.2.2.2.1 (Ev.g (by rw [cf2.2.2.2.2]; omega) (Ev.c (A2.go (k := ik) hW hik (cf2.ch ik) tw u2 (by omega)) (fun s3 _ q3 => ?_)))
    have A3 := A2.pe tw (by omega) q3.1
    have cf3 := cf2.ey A2.1 q3.1
    have Y3 : Ey x (Pe x t u) σ s3 := Y2.tr (q3.1.mono (fun _ _ p => p.up rfl (by omega)))
    have g1 := q3.2.2
    have ws := Tg.ws A3.1 ht (by omega)
    have us := Tg.ws A3.1 tw (by omega)
    have GV : ∀ (s4 : gMem) (v : Vl), WL s4 x → Ey x (Pe x t u) s3 s4 → mI s4 (x + 13) 3 = ((u + 1 : Nat) : Int) → VW s4 t v → Ev ((x3_give (x + 13) s4).bind (fun r => some r)) (fun r => EC x t u σ r v) := by
      intro s4 v wl X4 e3 g4
      refine Ev.c (c_give wl e3 (by omega)) (fun r _ q5 => Ev.r ⟨?_, q5.2, ?_⟩)
      · exact (Y3.tr X4).tr (q5.1.mono (fun a k p => Or.inl p.1)).y
      · exact g4.ex q5.1 (fun k p => by unfold Tg at ht; omega) (fun k p => by unfold Tg at ht; omega)
    have GH : ∀ (s4 : gMem) (v : Vl), HSw t s3 s4 v → Ev (if mT s4 (x + 13) = 3 then (x3_give (x + 13) s4).bind (fun r => some r) else none) (fun r => EC x t u σ r v) := by
      intro s4 v q4
      have wl4 := A3.1.ey q4.1.y
      exact Ev.g wl4.1 (GV s4 v wl4 (q4.1.mono (fun _ _ p => p.pe)).y (by rw [q4.1.rI (by unfold Wp; unfold Tg at ht; omega)]; exact q3.2.1) q4.2)
    unfold evLook
    refine Ev.g us.1 ?_
    rw [c_failed us g1, Option.bind_some]
    by_cases e0 : (ev cx ls[ik]).1 = 4
    · rw [if_pos e0, if_pos e0]
      exact Ev.f (by decide) (Ev.g ws.1 (Ev.c (c_copy ws us g1 tne) (fun s4 _ q4 => GH s4 _ q4)))
    · rw [if_neg e0, if_neg e0]
      have sp3 := A3.2.2.2.2.2.2.1 ia ha
      have ech : chd s3 q ia = chd σ q ia := by rw [← cf3.ch, ← cf.ch]; have nq : q ≠ x + 13 := (fun e => by have := cf.1; rw [e, A.1.1] at this; cases this)
                                                rw [Y3.rR (Or.inl nq), Y3.rR (Or.inl (fun e => by have := cf.2.2.2.1; rw [e, A.1.1] at this; cases this))]
      rw [ech] at sp3
      obtain ⟨L3, -⟩ := sp3.lab
      have kd := L3.kind
      refine Ev.g rfl (Ev.g (Or.inr kd.2.2.2) ?_)
      by_cases k6 : pK (lab ls[ia]) = 6
      · have t17 := kd.2.1.mpr k6
        rw [if_neg (show ¬ pK (lab ls[ia]) ≠ 6 from fun q => q k6)]
        refine Ev.g t17 (Ev.g (Or.inr t17) (Ev.g A3.1.1 (Ev.c (c_opens (by omega) A3.1 A3.2.1 ws L3 O t17 ver (by unfold Tg at ht; omega)) (fun x16 _ q6 => ?_))))
        cases hcs : cxArea cx (lab ls[ia]) with
        | none =>
          rw [hcs] at q6
          obtain ⟨r0, q7⟩ := q6
          have wl4 := A3.1.ey q7.1.y
          exact Ev.g r0 (GV x16.2 _ wl4 (q7.1.mono (fun _ _ p => p.pe)).y (by rw [q7.1.rI (by unfold Wp; unfold Tg at ht; omega)]; exact q3.2.1) q7.2)
        | some cs =>
          rw [hcs] at q6
          obtain ⟨r1, Y6, ar⟩ := q6
          dsimp only
          have YP : Ey x (Pe x t u) s3 x16.2 := Y6.mono (fun a k p => Or.inl p.1)
          have A6 := A3.pe ht (by omega) YP
          have cf6 := cf3.ey A3.1 YP
          have pv := O.ver
          obtain ⟨-, -, hv, vv⟩ := A3.2.1.2.2.2.2 _ pv.1 ver
          have vv6 := vv.pe (t := t) (u := u) ht (by omega) YP hv
          have g16 : VW x16.2 (x + 29 + 2 * u) (ev cx ls[ik]) := g1.ey Y6 (fun k p => by omega) (fun k p => by omega)
          have e36 : mI x16.2 (x + 13) 3 = ((u + 1 : Nat) : Int) := by rw [Y6.rI (by omega)]; exact q3.2.1
          refine Ev.f (by omega) (Ev.g cf6.1 ?_)
          by_cases c13 : j = 13
          · rw [if_pos (show pK p = 45 by rw [hk]; exact nk.1.mpr c13)]
            refine Ev.f (fun e => e ((cf6.is A6.2.1.2.2.2.1 (by decide)).mpr c13)) (Ev.c (c_nth hN A6.1 rfl (by omega) ht e36 hv vv6 ar g16) (fun s7 _ q7 => ?_))
            exact GV s7 _ (A6.1.ey q7.1) (YP.tr q7.1) q7.2.1 q7.2.2
          · rw [if_neg (show ¬ pK p = 45 by rw [hk]; exact fun e => c13 (nk.1.mp e))]
            refine Ev.g (fun e => c13 ((cf6.is A6.2.1.2.2.2.1 (by decide)).mp e)) (Ev.c (c_alike hN A6.1 A6.2.1.2.1 A6.2.1.2.2.2.1 cf6 (by omega) rfl (by omega) ht e36 hv vv6 ar g16) (fun s7 _ q7 => ?_))
            have e47 : (if pK p = 47 then vBe (((cs.map (cx.2 (pW (lab ls[ia])))).countP (likeV (ev cx ls[ik])) : Nat) : Int) else if firstLike (ev cx ls[ik]) (cs.map (cx.2 (pW (lab ls[ia])))) 0 = 0 then vErr 7 else vBe (firstLike (ev cx ls[ik]) (cs.map (cx.2 (pW (lab ls[ia])))) 0 : Nat)) = (if j = 14 then vBe (((cs.map (cx.2 (pW (lab ls[ia])))).countP (likeV (ev cx ls[ik])) : Nat) : Int) else if firstLike (ev cx ls[ik]) (cs.map (cx.2 (pW (lab ls[ia])))) 0 = 0 then vErr 7 else vBe (firstLike (ev cx ls[ik]) (cs.map (cx.2 (pW (lab ls[ia])))) 0 : Nat)) := by
              by_cases c14 : j = 14
              · rw [if_pos c14, if_pos (show pK p = 47 by rw [hk]; exact nk.2.2.mpr c14)]
              · rw [if_neg c14, if_neg (show ¬ pK p = 47 by rw [hk]; exact fun e => c14 (nk.2.2.mp e))]
            rw [e47]
            exact GV s7 _ (A6.1.ey q7.1) (YP.tr q7.1) q7.2.1 q7.2.2
      · rw [if_pos (show pK (lab ls[ia]) ≠ 6 from k6)]
        exact Ev.f (fun e => k6 (kd.2.1.mp e)) (Ev.g ws.1 (Ev.c (c_fail ws (by decide) (by decide)) (fun s4 _ q4 => GH s4 _ q4)))
  have J19 : ∀ (t0 : Int), t0 = (ia : Nat) → Ev (x20_search_j19 N W q (x + 13) t t0 (mR σ q 1) σ) (fun r => EC x t u σ r (evLook cx (pK p) (lab ls[ia]) (ev cx ls[ik]))) := by
    intro t0 ht0
    unfold x20_search_j19
    rw [ht0, tn]
    refine Ev.g cf.2.2.2.1 (Ev.g (by rw [cf.2.2.2.2]; omega) (Ev.g A.1.1 (A.take ht h3 (by omega) (fun s2 Y2 A2 u2 _ _ _ => ?_))))
    dsimp only
    have cf2 := cf.ey A.1 Y2
    rw [cf.ch]
    refine Ev.g cf2.1 ?_
    rcases hi with ⟨a1, a2, a3⟩ | ⟨a1, a2, a3⟩
    · subst a3
      exact Ev.f (fun e => e ((cf2.is A2.2.1.2.2.2.1 (by decide)).mpr a1)) (J46 s2 _ rfl Y2 A2 u2)
    · subst a3
      exact Ev.g (fun e => a1 ((cf2.is A2.2.1.2.2.2.1 (by decide)).mp e)) (J46 s2 _ rfl Y2 A2 u2)
  unfold x20_search
  refine Ev.g cf.1 ?_
  rcases hi with ⟨a1, a2, a3⟩ | ⟨a1, a2, a3⟩
  · exact Ev.f (fun e => e ((cf.is A.2.1.2.2.2.1 (by decide)).mpr a1)) (J19 1 (by omega))
  · exact Ev.g (fun e => a1 ((cf.is A.2.1.2.2.2.1 (by decide)).mp e)) (J19 0 (by omega))
end CoEv7
