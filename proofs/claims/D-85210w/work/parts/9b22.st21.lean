/-! ===== PHASE 2: values: the twin values the sheets that are wanted ===== -/
section State21
variable {N x h u b nv nv' pa un fs i t s k : Nat} {σ σ' τ τ' τ'' r : gMem} {P : Nat → Nat → Prop} {own rt : Nat → Nat} {S : Sh} {Gs : Nat → Sh} {g : Nat → Nat → Vl}
/-- places of the twin for values -/
def Vp (h a k : Nat) : Prop := (a = h ∧ ((71 ≤ k ∧ k ≤ 81) ∨ k = 65)) ∨ (h + 28 ≤ a ∧ a ≤ h + 41)
theorem Sv.vp {a k : Nat} (p : Sv h s a k) : Vp h a k := by unfold Sv Pv Hg at p; unfold Vp; omega
theorem Rl.vp (R : Rl x h t nv pa un fs Gs g own rt σ τ) (e : Ex P τ τ') (hP : ∀ a k, P a k → Vp h a k) (tb : TB τ' h) (vc : ∀ c, c < 13120 → ∃ v, VC τ' h c v) (rv : RVt h nv Gs g τ') : Rl x h t nv pa un fs Gs g own rt σ τ' := by
  have R0 := R
  obtain ⟨RC0, RT0, ⟨q1, q2, q3, q4, q5⟩, q6, q7, q8⟩ := R
  obtain ⟨⟨m1, m2, m3, m4⟩, ⟨r2, r3, r4, r5, r6, r7, r8⟩, r9, r10, r11, r12⟩ := RT0
  have l := RC0.1
  have E : ∀ a k, ¬ Vp h a k → mI τ' a k = mI τ a k := fun a k n => e.rI (fun p => n (hP a k p))
  have inT : ∀ a k, P a k → h ≤ a ∧ a ≤ h + 56 := fun a k p => by have := hP a k p; unfold Vp at this; omega
  have nco : ∀ {τ : gMem} a k, P a k → ¬ CoP τ h a k := fun a k p z => by
    have := hP a k p
    unfold Vp at this
    rcases z with ⟨o, h1, h2, h3, -⟩ | ⟨h3, -⟩ | ⟨o, h1, h2, h3, -⟩ <;> omega
  have eh : ∀ k, (k = 6 ∨ k = 7 ∨ k = 8 ∨ (12 ≤ k ∧ k ≤ 19) ∨ k = 24 ∨ k = 25 ∨ (40 ≤ k ∧ k ≤ 42)) → mI τ' h k = mI τ h k := fun k hk => E h k (by unfold Vp; omega)
  have gw : Grw τ τ' h := ⟨by rw [eh 25 (by omega)]; exact Int.le_refl _, by rw [eh 19 (by omega)]; exact Int.le_refl _, by rw [eh 24 (by omega)]; exact Int.le_refl _⟩
  have fr : FrS x h (fun _ => False) σ σ := ⟨Kz.rf l.ok, l.ok, l.z, WNF, fun a w _ => w.elim, ⟨fun f => f, fun f => f, fun f => f, fun f => f, fun f => f⟩, fun j _ => rfl, rfl, rfl⟩
  refine ⟨RC0, ⟨⟨TMb.ex e m1, tb, m3.tw m1 e inT, m4.ex e (fun b k p => (inT b k p).1)⟩, ⟨by rw [eh 8 (by omega)]; exact r2, by rw [eh 16 (by omega)]; exact r3, by rw [eh 17 (by omega)]; exact r4, by rw [eh 15 (by omega)]; exact r5, r6, r7, r8⟩, fun s hs => ?_, ?_, fun i hi => ?_, vc⟩, ⟨?_, ?_, ?_, ?_, q5.mv fr l.t5 RC0.vo e (fun a k p => ⟨fun q => by have := hP a k p; unfold Vp at this; unfold FtP at q; omega, nco a k p⟩) gw⟩, fun i hi => ?_, q7, rv⟩
  · rw [E _ _ (by unfold Vp; omega), E _ _ (by unfold Vp; omega)]; exact r9 s hs
  · rw [eh 25 (by omega), eh 19 (by omega), eh 24 (by omega)]; exact r10
  · have n := R0.2.1.len hi
    exact (r11 i hi).ex e (fun a k p q => by have := hP a k p; unfold Vp at this; unfold SlP at q; omega) (fun a k p => nco a k p) gw (Nat.le_refl _) n.1 n.2
  · obtain ⟨n, a1, a2, a3, a4⟩ := q1
    exact ⟨n, a1, a2, by rw [eh 40 (by omega)]; exact a3, fun k hk => by rw [E _ _ (by unfold Vp; omega)]; exact a4 k hk⟩
  · unfold Rfl at q2 ⊢; rw [eh 41 (by omega), eh 42 (by omega)]; exact q2
  · unfold Rnx at q3 ⊢; rw [eh 6 (by omega), eh 7 (by omega)]; exact q3
  · unfold Rpt at q4 ⊢; rw [eh 25 (by omega)]; exact q4
  · rw [eh 6 (by omega), eh 7 (by omega)]; exact q6 i hi
theorem ShT.ls (k : ShT τ h nv u S) : tLs τ h u 0 = S.1.1 ∧ tLs τ h u 1 = S.1.2 := by
  obtain ⟨⟨a1, a2⟩, b1, b2⟩ := k.ln
  unfold tLs
  rw [a1, b1, tn, tn]
  exact ⟨lst_eq_of rfl a2, lst_eq_of rfl b2⟩
theorem tsN_k (k : Nat) : tsN fs (81 + k) = k := by unfold tsN; rw [if_neg (by omega), if_neg (by omega), if_neg (by omega)]; omega
theorem TMb.ta (m : TMb τ h = true) : TA τ h := by
  have T := (TMb.tags m).2
  have a := T (63, 31, 102, 314880) (by decide)
  have b := T (18, 9, 102, 82400) (by decide)
  have c := T (70, 37, 102, 20) (by decide)
  exact ⟨a.2.1, a.2.2, b.2.1, b.2.2, c.2.1, c.2.2⟩
theorem CtB.wf {c : Int} {ct : Ct} (k : CtB τ h nv c ct) (ne : ct.2 ≠ []) : ∃ n, Wf n ct.2 := by
  rcases k with k | ⟨q, k1, k2, k3, k4, k5, -⟩ | ⟨q, k1, k2, -⟩
  · rw [k.2] at ne; exact absurd rfl ne
  · exact ⟨_, k5.wf⟩
  · exact absurd k2 ne
theorem VOk.norm {v : Vl} (a : VOk v) : (v.1 = 0 ∨ v.1 = 2 → v.2.1 = 0) ∧ (v.1 ≠ 2 → v.2.2 = []) := by
  rcases a with h | ⟨n, h, -⟩ | ⟨t, h, -⟩ | ⟨b, h⟩ | ⟨n, h, -⟩ <;> rw [h]
  · exact ⟨fun _ => rfl, fun _ => rfl⟩
  · exact ⟨fun z => absurd z (by show ¬ ((1 : Int) = 0 ∨ (1 : Int) = 2); decide), fun _ => rfl⟩
  · exact ⟨fun _ => rfl, fun z => absurd rfl z⟩
  · exact ⟨fun z => absurd z (by show ¬ ((3 : Int) = 0 ∨ (3 : Int) = 2); decide), fun _ => rfl⟩
  · exact ⟨fun z => absurd z (by show ¬ ((4 : Int) = 0 ∨ (4 : Int) = 2); decide), fun _ => rfl⟩
theorem VC.uniq {c : Nat} {v w : Vl} (a : VC τ h c v) (b : VC τ h c w) : v = w := by
  obtain ⟨a1, a2, a3, a4⟩ := a
  obtain ⟨b1, b2, b3, b4⟩ := b
  have e : v.1 = w.1 := by omega
  have na := a1.norm
  have nb := b1.norm
  refine Prod.ext e (Prod.ext ?_ ?_)
  · by_cases c : v.1 = 0 ∨ v.1 = 2
    · rw [na.1 c, nb.1 (by rw [← e]; exact c)]
    · have := a3 (fun z => c (Or.inl z)) (fun z => c (Or.inr z))
      have := b3 (fun z => c (Or.inl (by rw [e]; exact z))) (fun z => c (Or.inr (by rw [e]; exact z)))
      omega
  · by_cases c : v.1 = 2
    · have x := a4 c
      have y := b4 (by rw [← e]; exact c)
      have en : v.2.2.length = w.2.2.length := by omega
      exact gl_ext en (fun i hi => by rw [← x.2 i hi, ← y.2 i (by omega)])
    · rw [na.2 c, nb.2 (fun z => c (by rw [e]; exact z))]
/-- the twin values one sheet -/
theorem t_val (hN : 2000 ≤ N) (R : Rl x h t nv pa un fs Gs g own rt σ τ) (hi : rtV nv pa un i) (h40 : tsN fs i ≤ 40) (hV : Vi nv i ≤ (tsN fs i : Nat)) : Ev (tw_valuesOf N h (tsN fs i) τ) (fun r => Ex (Sv h (tsN fs i)) τ r ∧ TB r h ∧ (∀ c, c < 13120 → ∃ v, VC r h c v) ∧ ∃ (gx : Int → Nat → Vl) (g' : Nat → Vl), (∀ c, c < 320 → VC r h (320 * tsN fs i + c) (g' c)) ∧ gx (-1) = g' ∧ (∀ ver : Int, 0 ≤ ver → ver < Vi nv i → ∀ c, c < 320 → VC τ h (320 * ver.toNat + c) (gx ver c)) ∧ IsVal ((fun ver => (tLs τ h (shn (tsN fs i) ver) 0, tLs τ h (shn (tsN fs i) ver) 1)), gx) (Gs i).1.1.length (Gs i).1.2.length (Gs i).2) := by
  obtain ⟨⟨m1, m2, m3, m4⟩, ⟨r2, r3, r4, r5, r6, r7, r8⟩, r9, r10, r11, r12⟩ := R.2.1
  have sT := r11 i hi
  have len := R.2.1.len hi
  have sP := R.shP hi
  generalize hs : tsN fs i = s at *
  obtain ⟨G, hG⟩ : ∃ G : Nat → Vl, ∀ c, c < 13120 → VC τ h c (G c) := ⟨fun c => if hc : c < 13120 then Classical.choose (r12 c hc) else vE, fun c hc => by
    (try dsimp only)
    rw [dif_pos hc]; exact Classical.choose_spec (r12 c hc)⟩
  obtain ⟨cx, hcx⟩ : ∃ cx : Cx, cx = ((fun ver => (tLs τ h (shn s ver) 0, tLs τ h (shn s ver) 1)), (fun ver k => G (320 * shn s ver + k))) := ⟨_, rfl⟩
  have sh40 : ∀ ver : Int, -1 ≤ ver → ver < 40 → shn s ver ≤ 40 := fun ver h1 h2 => by unfold shn; split <;> omega
  have tc : TCx τ h s (cxv cx s (fun k => G (320 * s + k))) := by
    refine ⟨TMb.ta m1, m4, fun t ht => ?_, fun ver h1 h2 => ?_, fun ver h1 h2 k hk => ?_⟩
    · have := r9 t ht
      unfold tLn
      rw [if_neg (by decide), if_pos (by decide)]; exact this
    · rw [hcx]; rfl
    · have e : (cxv cx s (fun k => G (320 * s + k))).2 ver k = G (320 * shn s ver + k) := by
        unfold cxv
        (try dsimp only)
        by_cases c : shn s ver = s
        · rw [if_pos c, c]
        · rw [if_neg c, hcx]
      rw [e]
      exact hG _ (by have := sh40 ver h1 h2; omega)
  have ls := sT.ls
  have sm : shn s (-1) = s := by unfold shn; rw [if_pos (by decide)]
  have cs : CtS τ h s (Gs i).1.1.length (Gs i).1.2.length cx (Vi nv i) (Gs i).2 := by
    refine ⟨sT.1, sT.2.1, len.1, len.2, fun k hk => (sT.2.2.2.2 k hk).ctT r10.2.1, fun k hk ne => ⟨(sT.2.2.2.2 k hk).wf ne, sP.2.2.2.2.2.2 k hk⟩, ?_, ?_⟩
    · rw [hcx]
      show (tLs τ h (shn s (-1)) 0).length = _
      rw [sm, ls.1]
    · rw [hcx]
      show (tLs τ h (shn s (-1)) 1).length = _
      rw [sm, ls.2]
  have T39 := (TMb.tags m1).2 (83, 39, 101, 1600) (by decide)
  refine (t_valuesOf hN h40 hV T39.2.1 T39.2.2 cs m2 tc).m (fun r z => ?_)
  obtain ⟨X, tb, g', tc', iv⟩ := z
  have own' : ∀ c, c < 320 → VC r h (320 * s + c) (g' c) := fun c hc => by
    have := tc'.2.2.2.2 (-1) (by decide) (by decide) c hc
    rw [sm] at this
    have e : (cxv cx s g').2 (-1) c = g' c := by
      unfold cxv
      (try dsimp only)
      rw [if_pos sm]
    rw [e] at this; exact this
  refine ⟨X, tb, fun c hc => ?_, (cxv cx s g').2, g', own', ?_, fun ver h1 h2 c hc => ?_, ?_⟩
  · by_cases cc : 320 * s ≤ c ∧ c < 320 * s + 320
    · exact ⟨g' (c - 320 * s), by have := own' (c - 320 * s) (by omega); rwa [show 320 * s + (c - 320 * s) = c by omega] at this⟩
    · obtain ⟨v, hv⟩ := r12 c hc
      exact ⟨v, VG.ex X hv (by unfold Sv Pv Hg; omega) (by unfold Sv Pv Hg; omega) (by unfold Sv Pv Hg; omega) (fun j hj => by unfold Sv Pv Hg; omega)⟩
  · unfold cxv
    (try dsimp only)
    rw [if_pos sm]
  · have e : shn s ver = ver.toNat := by unfold shn; rw [if_neg (by omega)]
    have ne : ¬ ver.toNat = s := by omega
    have e2 : (cxv cx s g').2 ver c = G (320 * ver.toNat + c) := by
      unfold cxv
      (try dsimp only)
      rw [if_neg (by rw [e]; exact ne), hcx]
      show G (320 * shn s ver + c) = _
      rw [e]
    rw [e2]
    exact hG _ (by omega)
  · subst hcx
    exact iv
/-- a version that is valued -/
theorem t_val_v (hN : 2000 ≤ N) (R : Rl x h t nv pa un fs Gs g own rt σ τ) (hk : k < nv) (hb : ∀ j, j < k → mI τ (h + 32) j ≠ 0) : Ev (tw_valuesOf N h k τ) (fun r => Rl x h t nv pa un fs Gs g own rt σ (wI r (h + 32) k 1) ∧ Ex (fun a j => Sv h k a j ∨ (a = h + 32 ∧ j = k)) τ (wI r (h + 32) k 1)) := by
  obtain ⟨c5, n1, n4, pu, c8, p4, u4⟩ := R.c5
  have vk : rtV nv pa un (81 + k) := by unfold rtV; omega
  have ek := tsN_k (fs := fs) k
  have vi : Vi nv (81 + k) = (k : Int) := by unfold Vi; rw [if_pos (by omega)]; omega
  have A := t_val (N := N) hN R vk (by rw [ek]; omega) (by rw [ek, vi]; omega)
  rw [ek, vi] at A
  refine A.m (fun r z => ?_)
  obtain ⟨X, tb, vc, gx, g', v1, v2, v3, iv⟩ := z
  have XX : Ex (fun a j => Sv h k a j ∨ (a = h + 32 ∧ j = k)) τ (wI r (h + 32) k 1) := (X.mono (fun a j p => Or.inl p)).I (Or.inr ⟨rfl, rfl⟩)
  have XW : Ex (fun a j => a = h + 32 ∧ j = k) r (wI r (h + 32) k 1) := Ex.rf.I ⟨rfl, rfl⟩
  have toW : ∀ {c v}, VC r h c v → VC (wI r (h + 32) k 1) h c v := fun hv => VG.ex XW hv (by omega) (by omega) (by omega) (fun j hj => by omega)
  have q8 := R.2.2.2.2.2
  have iv2 := R.2.2.2.2.1.1 k hk
  have len := R.2.1.len vk
  -- the same values on both sides
  have SAME : ∀ c, inB (Gs (81 + k)).1.1.length (Gs (81 + k)).1.2.length c → g' c = g k c := by
    unfold IsV at iv2
    have sP := R.shP vk
    rw [vi] at sP
    have shk := (R.shT vk)
    have lsk := shk.ls
    rw [ek] at lsk
    have sm : shn k (-1) = k := by unfold shn; rw [if_pos (by decide)]
    have f0 : (tLs τ h (shn k (-1)) 0, tLs τ h (shn k (-1)) 1) = (Gs (81 + k)).1 := by rw [sm, lsk.1, lsk.2]
    have fv : ∀ ver : Int, 0 ≤ ver → ver < k → (tLs τ h (shn k ver) 0, tLs τ h (shn k ver) 1) = (Gs (81 + ver.toNat)).1 := fun ver h1 h2 => by
      have a := (R.shT (show rtV nv pa un (81 + ver.toNat) by unfold rtV; omega)).ls
      rw [tsN_k] at a
      have e : shn k ver = ver.toNat := by unfold shn; rw [if_neg (by omega)]
      rw [e, a.1, a.2]
    intro c hc
    have K := val_same (V := (k : Int)) (f := fun ver => (tLs τ h (shn k ver) 0, tLs τ h (shn k ver) 1)) (g := gx) (f' := fun ver : Int => if ver = -1 then (Gs (81 + k)).1 else (Gs (81 + ver.toNat)).1) (g' := fun ver : Int => if ver = -1 then g k else g ver.toNat) (fun c hc ne => ⟨(shk.2.2.2.2 c hc).wf ne, sP.2.2.2.2.2.2 c hc⟩) (congrArg (fun p => p.1.length) f0) (congrArg (fun p => p.2.length) f0) len.1 len.2 (by (try dsimp only); rw [if_pos rfl]; exact f0) (fun ver h1 h2 => by (try dsimp only); rw [if_neg (by omega)]; exact fv ver h1 h2) (fun ver h1 h2 => by
      (try dsimp only)
      have fs2 := congrArg Prod.snd (fv ver h1 h2)
      (try dsimp only at fs2)
      rw [fs2]
      exact (R.2.1.len (show rtV nv pa un (81 + ver.toNat) by unfold rtV; omega)).2) (fun ver h1 h2 c hc => by
      (try dsimp only at hc ⊢)
      have fs1 := congrArg Prod.fst (fv ver h1 h2)
      have fs2 := congrArg Prod.snd (fv ver h1 h2)
      (try dsimp only at fs1 fs2)
      rw [fs1, fs2] at hc
      rw [if_neg (by omega)]
      have a := v3 ver h1 h2 c (by have := (R.2.1.len (show rtV nv pa un (81 + ver.toNat) by unfold rtV; omega)); unfold inB at hc; omega)
      have b := q8.1 ver.toNat (by omega) (hb _ (by omega)) c hc
      exact VC.uniq a b) iv iv2 c hc
    (try dsimp only at K)
    rw [v2, if_pos rfl] at K; exact K
  refine ⟨R.vp XX (fun a j p => ?_) ?_ (fun c hc => ?_) ⟨fun j hj z c hc => ?_, fun j h1 h2 => ?_, fun z => ?_⟩, XX⟩
  · rcases p with p | p
    · exact p.vp
    · unfold Vp; omega
  · obtain ⟨b1, b2, b3, b4⟩ := tb
    exact ⟨fun i => by rw [XW.rI (by omega)]; exact b1 i, fun i => by rw [XW.rI (by omega)]; exact b2 i, fun i => by rw [XW.rI (by omega)]; exact b3 i, fun i => by rw [XW.rI (by omega)]; exact b4 i⟩
  · obtain ⟨v, hv⟩ := vc c hc
    exact ⟨v, toW hv⟩
  · by_cases e : j = k
    · subst e
      have := v1 c (by unfold inB at hc; omega)
      rw [SAME c hc] at this
      exact toW this
    · have z' : mI τ (h + 32) j ≠ 0 := by rw [← XX.rI (show ¬ (Sv h k (h + 32) j ∨ (h + 32 = h + 32 ∧ j = k)) by unfold Sv Pv Hg; omega)]; exact z
      have lj := R.2.1.len (show rtV nv pa un (81 + j) by unfold rtV; omega)
      have c320 : c < 320 := by unfold inB at hc; omega
      exact VG.ex XX (q8.1 j hj z' c hc) (by unfold Sv Pv Hg; omega) (by unfold Sv Pv Hg; omega) (by unfold Sv Pv Hg; omega) (fun m hm => by unfold Sv Pv Hg; omega)
  · rw [XX.rI (by unfold Sv Pv Hg; omega)]; exact q8.2.1 j h1 h2
  · rw [XX.rI (by unfold Sv Pv Hg; omega)] at z
    obtain ⟨V, w1, w2⟩ := q8.2.2 z
    have l0 := R.2.1.len (show rtV nv pa un 0 from Or.inl rfl)
    exact ⟨V, w1, fun c hc => by
      have c320 : c < 320 := by unfold inB at hc; omega
      exact VG.ex XX (w2 c hc) (by unfold Sv Pv Hg; omega) (by unfold Sv Pv Hg; omega) (by unfold Sv Pv Hg; omega) (fun m hm => by unfold Sv Pv Hg; omega)⟩
end State21
