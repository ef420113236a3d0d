/-! ===== PHASE 2: the component's formulas: looking in an area ===== -/
section CoEv6
variable {N w u x n t nv : Nat} {σ σ' s : gMem} {v a b : Vl} {cx : Cx}
theorem Pn.of {q k : Nat} (p : Pn x q k) : Pe x t u q k := p.pe
theorem getD_at {α : Type} {l : List α} {i : Nat} (d : α) (h : i < l.length) : l.getD i d = l[i] := by rw [List.getD_eq_getElem?_getD, List.getElem?_eq_getElem h]; rfl
theorem vCmp0 (a b : Vl) : ∃ c, vCmp 0 a b = vIs c := by
  unfold vCmp
  dsimp only
  split
  · exact ⟨_, rfl⟩
  · exact ⟨_, rfl⟩
theorem c_nth_l {va : Nat} {cs : List Nat} {V : Nat → Vl} {m0 : Nat} {K : gMem → Option gMem} {Φ : gMem → Prop} {σ0 : gMem} (hw : w = x + 29 + 2 * u) (hu : u + 1 < 700) (ht : Tg x u t) (hv : va = x + 4 ∨ x + 1429 ≤ va) (hm : m0 ≤ cs.length)
    (hK : ∀ s, Ex (Pn x) σ0 s → (0 < m0 → VW s (x + 25) (V (cs.getD (m0 - 1) 0))) → (∀ k, k < 13 ∨ 15 ≤ k → mI s (x + 13) k = mI σ0 (x + 13) k ∧ mL s (x + 13) k = mL σ0 (x + 13) k) → Ev (K s) Φ) :
    ∀ (m i f : Nat) (s : gMem), i + m = m0 → m < f → Ex (Pn x) σ0 s → WL s x → VV s va V → ArC s x va cs i → VW s w (1, ((m0 : Int), [])) → (0 < i → VW s (x + 25) (V (cs.getD (i - 1) 0))) → (∀ k, k < 13 ∨ 15 ≤ k → mI s (x + 13) k = mI σ0 (x + 13) k ∧ mL s (x + 13) k = mL σ0 (x + 13) k) → Ev (x20_nth_l44 N (x + 13) w t K f i s) Φ := by
  intro m
  induction m with
  | zero =>
    intro i f s h1 h2 X wl vv ar gk gc zo
    obtain ⟨f, rfl⟩ : ∃ j, f = j + 1 := ⟨f - 1, by omega⟩
    have us := Tg.ws wl (Tg.new w hw) (by omega)
    unfold x20_nth_l44
    refine Ev.g us.1 ?_
    rw [gk.2.2.2.1]
    have hi : i = m0 := by omega
    subst hi
    exact Ev.g (gcmp_nn.mpr (Int.le_refl _)) (hK s X gc zo)
  | succ m ih =>
    intro i f s h1 h2 X wl vv ar gk gc zo
    obtain ⟨f, rfl⟩ : ∃ j, f = j + 1 := ⟨f - 1, by omega⟩
    have us := Tg.ws wl (Tg.new w hw) (by omega)
    have hl := ar.len
    unfold x20_nth_l44
    refine Ev.g us.1 ?_
    rw [gk.2.2.2.1]
    refine Ev.f (fun q => by have := gcmp_nn.mp q; have e : (1, ((m0 : Int), ([] : List Int))).2.1 = (m0 : Int) := rfl; rw [e] at this; omega) (Ev.g wl.1 (Ev.c (c_next wl ar vv hv) (fun r _ q => ?_)))
    obtain ⟨q1, q2, q3, q4, q5⟩ := q.2 (by omega)
    rw [show w64 ((i : Int) + (((1 : Fin 2) : Nat) : Int)) = ((i + 1 : Nat) : Int) from (w64_i (x := (i : Int) + 1) (by omega) (by omega)).trans (by omega)]
    refine ih (i + 1) f r.2 (by omega) (by omega) (X.tr q2) (wl.ey q2.y) (vv.pe (t := t) (u := u) ht (by omega) (q2.mono (fun _ _ p => p.pe)).y hv) q4 (gk.ex q2 (fun k p => by unfold Pn at p; omega) (fun k p => by unfold Pn at p; omega)) (fun h => by rw [Nat.add_sub_cancel, getD_at _ (show i < cs.length by omega)]; exact q3) (fun k hk => ⟨(q5 k hk).1.trans (zo k hk).1, (q5 k hk).2.trans (zo k hk).2⟩)
/-- the n-th cell of an area -/
theorem c_nth {q va : Nat} {cs : List Nat} {V : Nat → Vl} {key : Vl} (hN : 400 ≤ N) (wl : WL σ x) (hw : w = x + 29 + 2 * u) (hu : u + 1 < 700) (ht : Tg x u t) (h3 : mI σ (x + 13) 3 = ((u + 1 : Nat) : Int)) (hv : va = x + 4 ∨ x + 1429 ≤ va) (vv : VV σ va V) (ar : ArC σ x va cs 0) (gk : VW σ w key) : Ev (x20_nth N q (x + 13) w t σ) (fun r => Ey x (Pe x t u) σ r ∧ mI r (x + 13) 3 = ((u + 1 : Nat) : Int) ∧ VW r t (if (wantN key).1 ≠ 1 then wantN key else if (wantN key).2.1 < 1 ∨ (cs.map V).length < (wantN key).2.1 then vErr 1 else (cs.map V).getD ((wantN key).2.1.toNat - 1) vE)) := by
  have us := Tg.ws wl (Tg.new w hw) (by omega)
  have ws := Tg.ws wl ht (by omega)
  have hl := ar.len
  have tne : t ≠ w := by unfold Tg at ht; omega
  have X3 : ∀ {r : gMem} {v : Vl}, HSw w σ r v → Ex (Pe x t u) σ r := fun q => q.1.mono (fun a k p => by unfold Wp at p; unfold Pe; omega)
  have h3' : ∀ {r : gMem} {v : Vl}, HSw w σ r v → mI r (x + 13) 3 = ((u + 1 : Nat) : Int) := fun q => by rw [q.1.rI (by unfold Wp; omega)]; exact h3
  unfold x20_nth
  refine Ev.g us.1 (Ev.c (c_wantNumber us gk) (fun x3 _ q3 => ?_))
  rw [q3.1]
  have Y := X3 q3.2
  have wl3 := wl.ey Y.y
  have ws3 := ws.ex Y
  have us3 := us.ex Y
  have m3 := h3' q3.2
  have F : ∀ {y : Option gMem} {v : Vl}, Ev y (fun r => HSw t x3.2 r v) → Ev y (fun r => Ey x (Pe x t u) σ r ∧ mI r (x + 13) 3 = ((u + 1 : Nat) : Int) ∧ VW r t v) := fun h => Ev.m h (fun r q => ⟨(Y.tr (q.1.mono (fun _ _ p => p.pe))).y, by rw [q.1.rI (by unfold Wp; unfold Tg at ht; omega)]; exact m3, q.2⟩)
  by_cases w1 : (wantN key).1 = 1
  · rw [if_pos w1, if_neg (show ¬ ¬ (wantN key).1 = 1 from fun q => q w1)]
    obtain ⟨ek, b1, b2⟩ := q3.2.2.1.k1 w1
    refine Ev.g (by decide) ?_
    rw [q3.2.2.2.2.2.1, List.length_map]
    by_cases c1 : (wantN key).2.1 < 1
    · rw [if_pos (Or.inl c1)]
      exact Ev.g (gcmp_ng.mpr c1) (Ev.g ws3.1 (F (Ev.c (c_fail ws3 (by decide) (by decide)) (fun r _ q => Ev.r q))))
    · have ar3 : ArC x3.2 x va cs 0 := ar.same (by rw [Y.rR]) (fun k _ _ => by rw [q3.2.1.rI (by unfold Wp; omega)])
      refine Ev.f (fun q => c1 (gcmp_ng.mp q)) (Ev.g wl3.1 (Ev.e (c_size wl3 ar3) ?_))
      by_cases c2 : (wantN key).2.1 ≤ cs.length
      · rw [if_neg (show ¬ ((wantN key).2.1 < 1 ∨ (cs.length : Int) < (wantN key).2.1) by omega)]
        refine Ev.g (gcmp_np.mpr c2) ?_
        have gk3 := q3.2.2
        rw [ek] at gk3
        generalize hm0 : (wantN key).2.1.toNat = m0
        have em : (wantN key).2.1 = (m0 : Int) := by omega
        rw [em] at gk3
        have vv3 := vv.pe (t := t) (u := u) ht (by omega) Y.y hv
        have h0 : 0 < m0 := by omega
        have hm1 : m0 - 1 < cs.length := by omega
        refine c_nth_l (σ0 := x3.2) (V := V) (cs := cs) (va := va) hw hu ht hv (by omega) (fun s X gc zo => ?_) m0 0 N x3.2 (by omega) (by omega) Ex.rf wl3 vv3 ar3 gk3 (fun h => absurd h (Nat.lt_irrefl 0)) (fun k hk => ⟨rfl, rfl⟩)
        have wls := wl3.ey X.y
        have cws := wls.2.2.2.2.2.2.2.2.1
        have wss := Tg.ws wls ht (by omega)
        refine Ev.g wls.1 (Ev.g wss.1 ?_)
        rw [wls.2.2.2.1]
        refine Ev.c (c_copy wss cws (gc h0) (by unfold Tg at ht; omega)) (fun r _ q => Ev.r ⟨((Y.tr (X.mono (fun _ _ p => p.pe))).tr (q.1.mono (fun _ _ p => p.pe))).y, ?_, ?_⟩)
        · rw [q.1.rI (by unfold Wp; unfold Tg at ht; omega), (zo 3 (by decide)).1]; exact m3
        · have e : (cs.map V).getD (m0 - 1) vE = V cs[m0 - 1] := by
            rw [List.getD_eq_getElem?_getD, List.getElem?_map, List.getElem?_eq_getElem hm1]; rfl
          rw [e, ← getD_at 0 hm1]; exact q.2
      · rw [if_pos (show ((wantN key).2.1 < 1 ∨ (cs.length : Int) < (wantN key).2.1) by omega)]
        exact Ev.f (fun q => c2 (gcmp_np.mp q)) (Ev.g ws3.1 (F (Ev.c (c_fail ws3 (by decide) (by decide)) (fun r _ q => Ev.r q))))
  · rw [if_neg w1, if_pos (show ¬ (wantN key).1 = 1 from w1)]
    exact Ev.f (by decide) (Ev.g ws3.1 (F (Ev.c (c_copy ws3 us3 q3.2.2 tne) (fun r _ q => Ev.r q))))
/-- what looking for likes changes -/
def Pl (x w' a : Nat) (_ : Nat) : Prop := a = x + 13 ∨ a = x + 25 ∨ a = x + 26 ∨ a = w' ∨ a = w' + 1
theorem c_alike_l {qa va w' : Nat} {cs : List Nat} {V : Nat → Vl} {key : Vl} {K : Int → Int → gMem → Option gMem} {Φ : gMem → Prop} {σ0 : gMem} (hN : 30 ≤ N) (hw : w = x + 29 + 2 * u) (hw' : w' = x + 31 + 2 * u) (hu : u + 2 < 700) (ht : Tg x u t) (hv : va = x + 4 ∨ x + 1429 ≤ va)
    (hK : ∀ (s : gMem) (c f : Nat), Ex (Pl x w') σ0 s → c = (cs.map V).countP (likeV key) → f = firstLike key (cs.map V) 0 → c ≤ 320 → f ≤ 320 → (∀ k, k < 13 ∨ 15 ≤ k → mI s (x + 13) k = mI σ0 (x + 13) k ∧ mL s (x + 13) k = mL σ0 (x + 13) k) → Ev (K c f s) Φ) :
    ∀ (m i fu : Nat) (s : gMem) (c f : Nat), i + m = cs.length → m < fu → Ex (Pl x w') σ0 s → WL s x → KS s → VV s va V → ArC s x va cs i → VW s w key → c ≤ i → f ≤ i →
      c + ((cs.drop i).map V).countP (likeV key) = (cs.map V).countP (likeV key) → (if f ≠ 0 then f else firstLike key ((cs.drop i).map V) i) = firstLike key (cs.map V) 0 → (∀ k, k < 13 ∨ 15 ≤ k → mI s (x + 13) k = mI σ0 (x + 13) k ∧ mL s (x + 13) k = mL σ0 (x + 13) k) → Ev (x20_alike_l15 N qa (x + 13) w t w' K fu c i f s) Φ := by
  intro m
  have ht1 : Tg x (u + 1) w := Tg.new w hw
  have ht2 : Tg x (u + 2) w' := Tg.new (u := u + 1) w' (by omega)
  induction m with
  | zero =>
    intro i fu s c f h1 h2 X wl ks vv ar gk hc hf ec ef zo
    obtain ⟨fu, rfl⟩ : ∃ j, fu = j + 1 := ⟨fu - 1, by omega⟩
    have hl := ar.len
    unfold x20_alike_l15
    refine Ev.g wl.1 (Ev.c (c_next wl ar vv hv) (fun r _ q => ?_))
    rw [q.1 (by omega)]
    rw [List.drop_eq_nil_of_le (by omega)] at ec ef
    refine Ev.g rfl (hK s c f X (by simpa using ec) ?_ (by omega) (by omega) zo)
    by_cases q : f = 0
    · rw [if_neg (fun p => p q)] at ef
      rw [q]; exact ef
    · rw [if_pos q] at ef; exact ef
  | succ m ih =>
    intro i fu s c f h1 h2 X wl ks vv ar gk hc hf ec ef zo
    obtain ⟨fu, rfl⟩ : ∃ j, fu = j + 1 := ⟨fu - 1, by omega⟩
    have hl := ar.len
    have hi : i < cs.length := by omega
    have dr : (cs.drop i).map V = V cs[i] :: (cs.drop (i + 1)).map V := by rw [List.drop_eq_getElem_cons hi, List.map_cons]
    rw [dr, List.countP_cons] at ec
    rw [dr] at ef
    unfold x20_alike_l15
    refine Ev.g wl.1 (Ev.c (c_next wl ar vv hv) (fun r _ q => ?_))
    obtain ⟨q1, q2, q3, q4, q5⟩ := q.2 hi
    have X1 : Ex (Pl x w') σ0 r.2 := X.tr (q2.mono (fun a k p => by unfold Pn at p; unfold Pl; omega))
    have wl1 := wl.ey q2.y
    have cw1 := wl1.2.2.2.2.2.2.2.2.1
    have vv1 := vv.pe (t := w') (u := u + 2) ht2 (by omega) (q2.mono (fun _ _ p => p.pe)).y hv
    have gk1 : VW r.2 w key := gk.ex q2 (fun k p => by unfold Pn at p; omega) (fun k p => by unfold Pn at p; omega)
    have ks1 : KS r.2 := ks.ex q2 (fun a k p => by
      have := Pe.tag wl ht2 (by omega) (p.pe (t := w') (u := u + 2)); omega)
    have zo1 : ∀ k, k < 13 ∨ 15 ≤ k → mI r.2 (x + 13) k = mI σ0 (x + 13) k ∧ mL r.2 (x + 13) k = mL σ0 (x + 13) k := fun k hk => ⟨(q5 k hk).1.trans (zo k hk).1, (q5 k hk).2.trans (zo k hk).2⟩
    have go : ∀ (s' : gMem) (c' f' : Nat), Ex (Pl x w') r.2 s' → (∀ k, mI s' (x + 13) k = mI r.2 (x + 13) k ∧ mL s' (x + 13) k = mL r.2 (x + 13) k) → c' ≤ i + 1 → f' ≤ i + 1 → c' + ((cs.drop (i + 1)).map V).countP (likeV key) = (cs.map V).countP (likeV key) → (if f' ≠ 0 then f' else firstLike key ((cs.drop (i + 1)).map V) (i + 1)) = firstLike key (cs.map V) 0 → Ev (x20_alike_l15 N qa (x + 13) w t w' K fu c' ((i + 1 : Nat) : Int) f' s') Φ := by
      intro s' c' f' X' zk a1 a2 a3 a4
      have XP : Ex (Pe x w' (u + 2)) r.2 s' := X'.mono (fun a k p => by unfold Pl at p; unfold Pe; omega)
      refine ih (i + 1) fu s' c' f' (by omega) (by omega) (X1.tr X') (wl1.ey X'.y) (ks1.ex XP (fun a k p => by have := Pe.tag wl1 ht2 (by omega) p; omega)) (vv1.pe (t := w') (u := u + 2) ht2 (by omega) XP.y hv) (q4.same (by rw [X'.rR]) (fun k _ _ => (zk k).1)) (gk1.ex X' (fun k p => by unfold Pl at p; omega) (fun k p => by unfold Pl at p; omega)) a1 a2 a3 a4 (fun k hk => ⟨(zk k).1.trans (zo1 k hk).1, (zk k).2.trans (zo1 k hk).2⟩)
    refine Ev.f (by omega) ?_
    rw [wl1.2.2.2.1, inc32 (i := i) (by omega), inc32 (i := c) (by omega)]
    refine Ev.g cw1.1 ?_
    rw [c_failed cw1 q3, Option.bind_some]
    by_cases c4 : (V cs[i]).1 = 4
    · rw [if_pos c4]
      have lk : likeV key (V cs[i]) = false := by unfold likeV; rw [decide_eq_false (fun q => q c4)]; rfl
      rw [lk] at ec
      refine Ev.f (by decide) (go r.2 c f Ex.rf (fun k => ⟨rfl, rfl⟩) (by omega) (by omega) (by simpa using ec) ?_)
      by_cases q : f = 0
      · rw [if_neg (fun p => p q)] at ef ⊢
        rw [← ef]
        conv => rhs; unfold firstLike
        rw [lk, if_neg Bool.false_ne_true]
      · rw [if_pos q] at ef ⊢; exact ef
    · rw [if_neg c4]
      have wsw' := Tg.ws wl1 ht2 (by omega)
      have wsw := Tg.ws wl1 ht1 (by omega)
      refine Ev.g rfl (Ev.g wsw'.1 (Ev.c (c_copy wsw' wsw gk1 (by omega)) (fun s2 _ q6 => ?_)))
      have wl2 := wl1.ey q6.1.y
      have XQ : Ex (Pe x w' (u + 2)) r.2 s2 := q6.1.mono (fun _ _ p => p.pe)
      have ks2 : KS s2 := ks1.ex XQ (fun a k p => by have := Pe.tag wl1 ht2 (by omega) p; omega)
      have cw2 := wl2.2.2.2.2.2.2.2.2.1
      have q32 : VW s2 (x + 25) (V cs[i]) := q3.ex q6.1 (fun k p => by unfold Wp at p; omega) (fun k p => by unfold Wp at p; omega)
      rw [wl2.2.2.2.1]
      refine Ev.c (c_compare (k := 0) hN ks2 (wsw'.ex q6.1) cw2 q6.2 q32 (by omega) (by decide)) (fun s3 _ q7 => ?_)
      have X3 : Ex (Pl x w') r.2 s3 := (q6.1.mono (fun a k p => by unfold Wp at p; unfold Pl; omega)).tr (q7.1.mono (fun a k p => by unfold Wq at p; unfold Pl; omega))
      have zk : ∀ k, mI s3 (x + 13) k = mI r.2 (x + 13) k ∧ mL s3 (x + 13) k = mL r.2 (x + 13) k := fun k => ⟨by rw [q7.1.rI (by unfold Wq; omega), q6.1.rI (by unfold Wp; omega)], by rw [q7.1.rL (by unfold Wq; omega), q6.1.rL (by unfold Wp; omega)]⟩
      obtain ⟨bb, eb⟩ := vCmp0 key (V cs[i])
      have lk : likeV key (V cs[i]) = bb := by
        unfold likeV
        rw [decide_eq_true c4, eb]
        cases bb <;> rfl
      have m2 : mL s3 w' 2 = if bb then 1 else 0 := by rw [q7.2.2.2.2.1, eb]; rfl
      rw [m2]
      rw [lk] at ec
      cases bb with
      | false =>
        refine Ev.f (fun q => q rfl) (go s3 c f X3 zk (by omega) (by omega) (by simpa using ec) ?_)
        by_cases q : f = 0
        · rw [if_neg (fun p => p q)] at ef ⊢
          rw [← ef]
          conv => rhs; unfold firstLike
          rw [lk, if_neg Bool.false_ne_true]
        · rw [if_pos q] at ef ⊢; exact ef
      | true =>
        rw [if_pos rfl] at ec
        refine Ev.g (by decide) ?_
        by_cases q : f = 0
        · rw [if_neg (fun p => p q)] at ef
          refine Ev.f (fun p => p (by omega)) (go s3 (c + 1) (i + 1) X3 zk (by omega) (by omega) (by omega) ?_)
          rw [← ef]
          unfold firstLike
          rw [if_pos (by omega), lk, if_pos rfl]
        · rw [if_pos q] at ef
          refine Ev.g (by omega) (go s3 (c + 1) f X3 zk (by omega) (by omega) (by omega) ?_)
          rw [if_pos q]; exact ef
end CoEv6
