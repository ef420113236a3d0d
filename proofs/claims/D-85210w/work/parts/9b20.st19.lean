/-! ===== PHASE 2: sheets that are alike ===== -/
section Alike3
variable {N x h t nv pa un fs a b u r : Nat} {σ τ : gMem} {S T : Sh} {A B : Nat} {l m : List Int} {own rt : Nat → Nat} {Gs : Nat → Sh} {g : Nat → Nat → Vl}
/-- two sheets with the same lines and the same contents -/
def LikeS (S T : Sh) : Prop := S.1.1 = T.1.1 ∧ S.1.2 = T.1.2 ∧ ∀ k, inB T.1.1.length T.1.2.length k → S.2 k = T.2 k
theorem mk0 {K : Int → Option Int} {i : Int} : ∀ n, 0 < n → x9_isAlike_l15 N σ A B K n 0 i = K 0 := by
  intro n hn
  obtain ⟨f, rfl⟩ : ∃ j, n = j + 1 := ⟨n - 1, by omega⟩
  unfold x9_isAlike_l15
  rw [if_pos rfl]
theorem c_marks_l (k : LsC σ A l) (k' : LsC σ B m) (e : l.length = m.length) {K : Int → Option Int} {Φ : Int → Prop} (hK : ∀ v, Is01 v (l = m) → Ev (K v) Φ) : ∀ (j i f : Nat), i + j = l.length → j + 1 < f → (∀ c, c < i → gl l c = gl m c) → Ev (x9_isAlike_l15 N σ A B K f 1 i) Φ := by
  obtain ⟨a1, a2, a3, a4⟩ := k
  obtain ⟨b1, b2, b3, b4⟩ := k'
  intro j
  induction j with
  | zero =>
    intro i f h1 h2 h3
    obtain ⟨f, rfl⟩ : ∃ j, f = j + 1 := ⟨f - 1, by omega⟩
    unfold x9_isAlike_l15
    rw [a2, w32_i (by omega) (by omega)]
    exact Ev.f (by decide) (Ev.g a1 (Ev.g (by omega) (hK 1 (Is01.yes (gl_ext e (fun i hi => h3 i (by omega)))))))
  | succ j ih =>
    intro i f h1 h2 h3
    obtain ⟨f, rfl⟩ : ∃ j, f = j + 1 := ⟨f - 1, by omega⟩
    unfold x9_isAlike_l15
    rw [a2, w32_i (by omega) (by omega), b2, tn, a4 i (by omega), b4 i (by omega)]
    refine Ev.f (by decide) (Ev.g a1 (Ev.f (by omega) (Ev.g (by omega) (Ev.g b1 (Ev.g (by omega) ?_)))))
    unfold x9_isAlike_l15_j39
    rw [inc32 (by omega)]
    by_cases c : gl l i = gl m i
    · refine Ev.f (fun z => z c) (ih (i + 1) f (by omega) (by omega) (fun y hy => ?_))
      by_cases d : y = i
      · rw [d]; exact c
      · exact h3 y (by omega)
    · refine Ev.g c ?_
      rw [mk0 f (by omega)]
      exact hK 0 (Is01.no (fun z => c (by rw [z])))
theorem c_marksA (hN : 100 ≤ N) (k : LsC σ A l) (k' : LsC σ B m) : Ev (x9_isAlike N A B σ) (fun v => Is01 v (l = m)) := by
  have n1 := k.2.2.1
  have n2 := k'.2.2.1
  unfold x9_isAlike
  rw [k.2.1, k'.2.1, w32_i (by omega) (by omega), w32_i (x := (m.length : Int)) (by omega) (by omega)]
  refine Ev.g k.1 (Ev.g k'.1 ?_)
  by_cases e : l.length = m.length
  · refine Ev.f (fun z => z (by omega)) ?_
    unfold x9_isAlike_j12
    exact c_marks_l k k' e (fun v hv => Ev.g hv.b01 (Ev.r hv)) l.length 0 N (by omega) (by omega) (fun c hc => by omega)
  · refine Ev.g (fun z => e (by omega)) ?_
    unfold x9_isAlike_j12
    rw [mk0 N (by omega)]
    exact Ev.g (Or.inl rfl) (Ev.r (Is01.no (fun z => e (by rw [z]))))
theorem row0 {K : Int → Option Int} {r i : Int} : ∀ n, 0 < n → x9_isLike_l52 N σ a b r K n 0 i = K 0 := by
  intro n hn
  obtain ⟨f, rfl⟩ : ∃ j, n = j + 1 := ⟨n - 1, by omega⟩
  unfold x9_isLike_l52
  rw [if_pos rfl]
theorem rows0 {K : Int → Option Int} {i : Int} : ∀ n, 0 < n → x9_isLike_l36 N σ a b K n 0 i = K 0 := by
  intro n hn
  obtain ⟨f, rfl⟩ : ∃ j, n = j + 1 := ⟨n - 1, by omega⟩
  unfold x9_isLike_l36
  rw [if_pos rfl]
section In
variable {K : Int → Option Int} {Φ : Int → Prop}
theorem isl_in (hN : 1100 ≤ N) (kc : KC σ) (z0 : mT σ 0 = 0) (c : ShC σ a S) (d : ShC σ b T) (e1 : S.1.1.length = T.1.1.length) (e2 : S.1.2.length = T.1.2.length) (hr : r < S.1.1.length) (hK : ∀ v, Is01 v (∀ cc, cc < S.1.2.length → S.2 (10 * r + cc) = T.2 (10 * r + cc)) → Ev (K v) Φ) : ∀ (j cc f : Nat), cc + j = S.1.2.length → j + 1 < f → (∀ c', c' < cc → S.2 (10 * r + c') = T.2 (10 * r + c')) → Ev (x9_isLike_l52 N σ a b r K f 1 cc) Φ := by
  have m10 := c.1.2.2.2
  have n32 := c.1.2.1.2.2.1
  obtain ⟨p1, p2, p3⟩ := c.2.2.2 r hr
  obtain ⟨q1, q2, q3⟩ := d.2.2.2 r (by omega)
  intro j
  induction j with
  | zero =>
    intro cc f h1 h2 h3
    obtain ⟨f, rfl⟩ : ∃ j, f = j + 1 := ⟨f - 1, by omega⟩
    unfold x9_isLike_l52
    rw [c.1.2.2.1.2.1, w32_i (by omega) (by omega)]
    exact Ev.f (by decide) (Ev.g c.1.1 (Ev.g c.1.2.2.1.1 (Ev.g (by omega) (hK 1 (Is01.yes (fun c' hc => h3 c' (by omega)))))))
  | succ j ih =>
    intro cc f h1 h2 h3
    obtain ⟨f, rfl⟩ : ∃ j, f = j + 1 := ⟨f - 1, by omega⟩
    unfold x9_isLike_l52
    rw [c.1.2.2.1.2.1, w32_i (by omega) (by omega), tn, tn, c.2.2.1, p2, d.2.2.1, q2, inc32 (by omega)]
    refine Ev.f (by decide) (Ev.g c.1.1 (Ev.g c.1.2.2.1.1 (Ev.f (by omega) (Ev.g c.2.1 (Ev.g (by omega) (Ev.g p1 (Ev.g (by omega) (Ev.g d.1.1 (Ev.g d.2.1 (Ev.g (by omega) (Ev.g q1 (Ev.g (by omega) (Ev.c (c_alikeC hN kc z0 (p3 cc (by omega)) (q3 cc (by omega))) (fun v _ hv => ?_))))))))))))))
    rcases hv with ⟨ev, hv⟩ | ⟨ev, hv⟩
    · rw [ev]
      refine ih (cc + 1) f (by omega) (by omega) (fun c' hc => ?_)
      by_cases d : c' = cc
      · rw [d]; exact hv
      · exact h3 c' (by omega)
    · rw [ev, row0 f (by omega)]
      exact hK 0 (Is01.no (fun z => hv (z cc (by omega))))
theorem isl_out (hN : 1100 ≤ N) (kc : KC σ) (z0 : mT σ 0 = 0) (c : ShC σ a S) (d : ShC σ b T) (e1 : S.1.1.length = T.1.1.length) (e2 : S.1.2.length = T.1.2.length) (hK : ∀ v, Is01 v (∀ rr, rr < S.1.1.length → ∀ cc, cc < S.1.2.length → S.2 (10 * rr + cc) = T.2 (10 * rr + cc)) → Ev (K v) Φ) : ∀ (j rr f : Nat), rr + j = S.1.1.length → j + 1 < f → (∀ r', r' < rr → ∀ cc, cc < S.1.2.length → S.2 (10 * r' + cc) = T.2 (10 * r' + cc)) → Ev (x9_isLike_l36 N σ a b K f 1 rr) Φ := by
  have m10 := c.1.2.2.2
  have n32 := c.1.2.1.2.2.1
  intro j
  induction j with
  | zero =>
    intro rr f h1 h2 h3
    obtain ⟨f, rfl⟩ : ∃ j, f = j + 1 := ⟨f - 1, by omega⟩
    unfold x9_isLike_l36
    rw [c.1.2.1.2.1, w32_i (by omega) (by omega)]
    exact Ev.f (by decide) (Ev.g c.1.1 (Ev.g c.1.2.1.1 (Ev.g (by omega) (hK 1 (Is01.yes (fun r' hr => h3 r' (by omega)))))))
  | succ j ih =>
    intro rr f h1 h2 h3
    obtain ⟨f, rfl⟩ : ∃ j, f = j + 1 := ⟨f - 1, by omega⟩
    unfold x9_isLike_l36
    rw [c.1.2.1.2.1, w32_i (by omega) (by omega)]
    refine Ev.f (by decide) (Ev.g c.1.1 (Ev.g c.1.2.1.1 (Ev.f (by omega) (isl_in hN kc z0 c d e1 e2 (by omega) (fun v hv => ?_) S.1.2.length 0 N (by omega) (by omega) (fun c' hc => by omega)))))
    unfold x9_isLike_l36_j94
    rw [inc32 (by omega)]
    rcases hv with ⟨ev, hv⟩ | ⟨ev, hv⟩
    · rw [ev]
      refine ih (rr + 1) f (by omega) (by omega) (fun r' hr => ?_)
      by_cases d : r' = rr
      · rw [d]; exact hv
      · exact h3 r' (by omega)
    · rw [ev, rows0 f (by omega)]
      exact hK 0 (Is01.no (fun z => hv (z rr (by omega))))
end In
theorem LikeS.iff (e1 : S.1.1 = T.1.1) (e2 : S.1.2 = T.1.2) (m10 : S.1.2.length ≤ 10) : LikeS S T ↔ ∀ rr, rr < S.1.1.length → ∀ cc, cc < S.1.2.length → S.2 (10 * rr + cc) = T.2 (10 * rr + cc) := by
  unfold LikeS
  constructor
  · rintro ⟨-, -, z⟩ rr hr cc hc
    exact z _ (by unfold inB; rw [← e1, ← e2]; omega)
  · intro z
    refine ⟨e1, e2, fun k hk => ?_⟩
    unfold inB at hk
    rw [← e1, ← e2] at hk
    have := z (k / 10) hk.1 (k % 10) hk.2
    rw [show 10 * (k / 10) + k % 10 = k by omega] at this; exact this
/-- two sheets compared by the class -/
theorem c_isLike (hN : 1100 ≤ N) (kc : KC σ) (z0 : mT σ 0 = 0) (c : ShC σ a S) (d : ShC σ b T) : Ev (x9_isLike N a b σ) (fun v => Is01 v (LikeS S T)) := by
  have m10 := c.1.2.2.2
  have n32 := c.1.2.1.2.2.1
  have J32 : ¬ LikeS S T → Ev (x9_isLike_j32 N σ a b) (fun v => Is01 v (LikeS S T)) := by
    intro n
    unfold x9_isLike_j32 x9_isLike_j33
    rw [rows0 N (by omega)]
    exact Ev.g (Or.inl rfl) (Ev.r (Is01.no n))
  unfold x9_isLike
  refine Ev.g c.1.1 (Ev.g d.1.1 (Ev.c (c_marksA (by omega) c.1.2.1 d.1.2.1) (fun v _ hv => ?_)))
  rcases hv with ⟨ev, h1⟩ | ⟨ev, h1⟩
  · refine Ev.f (by omega) (Ev.c (c_marksA (by omega) c.1.2.2.1 d.1.2.2.1) (fun v _ hv => ?_))
    rcases hv with ⟨ev, h2⟩ | ⟨ev, h2⟩
    · refine Ev.f (by omega) ?_
      unfold x9_isLike_j33
      exact isl_out hN kc z0 c d (by rw [h1]) (by rw [h2]) (fun v hv => Ev.g hv.b01 (Ev.r (hv.cg (LikeS.iff h1 h2 m10).symm))) S.1.1.length 0 N (by omega) (by omega) (fun r' hr => by omega)
    · exact Ev.g ev (J32 (fun z => h2 z.2.1))
  · exact Ev.g ev (J32 (fun z => h1 z.1))
-- the twin
theorem ShT.ln (k : ShT τ h nv u S) : (tLn τ h u 0 = S.1.1.length ∧ ∀ j, j < S.1.1.length → tLi τ h u 0 j = gl S.1.1 j) ∧ tLn τ h u 1 = S.1.2.length ∧ ∀ j, j < S.1.2.length → tLi τ h u 1 j = gl S.1.2 j := by
  obtain ⟨k1, k2, k3, k4, -⟩ := k
  refine ⟨⟨?_, fun j hj => ?_⟩, ?_, fun j hj => ?_⟩
  · unfold tLn; rw [if_neg (by decide)]; exact k1
  · unfold tLi; rw [if_neg (by decide)]; exact k3 j hj
  · unfold tLn; rw [if_pos (by decide)]; exact k2
  · unfold tLi; rw [if_pos (by decide)]; exact k4 j hj
theorem like0 {K : Int → Option Int} {s u v : Nat} {ax : Int} {i : Int} (hs : s < 122) : ∀ n, 0 < n → tw_isLike_2_l25 N h τ s u ax K n 0 i = K 0 := by
  intro n hn
  obtain ⟨f, rfl⟩ : ∃ j, n = j + 1 := ⟨n - 1, by omega⟩
  unfold tw_isLike_2_l25
  rw [t_linesOf hs, Option.bind_some]
  by_cases c : tLn τ h s ax ≤ i
  · rw [if_pos c]
  · rw [if_neg c, if_pos rfl]
theorem t_like2_l {s u : Nat} {ax : Int} (hs : s < 122) (hu : u < 122) (eL : tLn τ h s ax = l.length) (fL : ∀ j, j < l.length → tLi τ h s ax j = gl l j) (fM : ∀ j, j < m.length → tLi τ h u ax j = gl m j) (e : l.length = m.length) (hm : l.length ≤ axM ax) {K : Int → Option Int} {Φ : Int → Prop} (hK : ∀ v, Is01 v (l = m) → Ev (K v) Φ) : ∀ (j i f : Nat), i + j = l.length → j + 1 < f → (∀ c, c < i → gl l c = gl m c) → Ev (tw_isLike_2_l25 N h τ s u ax K f 1 i) Φ := by
  have := axM_le ax
  intro j
  induction j with
  | zero =>
    intro i f h1 h2 h3
    obtain ⟨f, rfl⟩ : ∃ j, f = j + 1 := ⟨f - 1, by omega⟩
    unfold tw_isLike_2_l25
    rw [t_linesOf hs, Option.bind_some, eL]
    exact Ev.g (by omega) (hK 1 (Is01.yes (gl_ext e (fun i hi => h3 i (by omega)))))
  | succ j ih =>
    intro i f h1 h2 h3
    obtain ⟨f, rfl⟩ : ∃ j, f = j + 1 := ⟨f - 1, by omega⟩
    unfold tw_isLike_2_l25
    rw [t_linesOf hs, Option.bind_some, eL, t_lineAt hs (by omega), Option.bind_some, t_lineAt hu (by omega), Option.bind_some, fL i (by omega), fM i (by omega)]
    refine Ev.f (by omega) (Ev.f (by decide) ?_)
    unfold tw_isLike_2_l25_j65
    rw [inc32 (by omega)]
    by_cases c : gl l i = gl m i
    · refine Ev.f (fun z => z c) (ih (i + 1) f (by omega) (by omega) (fun y hy => ?_))
      by_cases d : y = i
      · rw [d]; exact c
      · exact h3 y (by omega)
    · refine Ev.g c ?_
      rw [like0 (v := 0) hs f (by omega)]
      exact hK 0 (Is01.no (fun z => c (by rw [z])))
theorem t_like2 {s u : Nat} {ax : Int} (hN : 100 ≤ N) (hs : s < 122) (hu : u < 122) (eL : tLn τ h s ax = l.length) (fL : ∀ j, j < l.length → tLi τ h s ax j = gl l j) (eM : tLn τ h u ax = m.length) (fM : ∀ j, j < m.length → tLi τ h u ax j = gl m j) (hm : l.length ≤ axM ax) : Ev (tw_isLike_2 N h s u ax τ) (fun v => Is01 v (l = m)) := by
  have := axM_le ax
  unfold tw_isLike_2
  rw [t_linesOf hs, Option.bind_some, t_linesOf hu, Option.bind_some, eL, eM]
  by_cases e : l.length = m.length
  · refine Ev.f (fun z => z (by omega)) ?_
    unfold tw_isLike_2_j20
    exact t_like2_l hs hu eL fL fM e hm (fun v hv => Ev.g hv.b01 (Ev.r hv)) l.length 0 N (by omega) (by omega) (fun c hc => by omega)
  · refine Ev.g (fun z => e (by omega)) ?_
    unfold tw_isLike_2_j20
    rw [like0 (v := 0) hs N (by omega)]
    exact Ev.g (Or.inl rfl) (Ev.r (Is01.no (fun z => e (by rw [z]))))
theorem t_head_l (hN : 500 ≤ N) (m60 : mI τ h 25 ≤ 60000) (k : ShT τ h nv 40 S) (k' : ShT τ h nv u T) (hu : u < 40) (e1 : S.1.1 = T.1.1) (e2 : S.1.2 = T.1.2) : ∀ (j i f : Nat), i + j = 320 → j < f → (∀ c, c < i → inB T.1.1.length T.1.2.length c → S.2 c = T.2 c) → Ev (tw_isLikeHead_l31 N h τ u (some 1) f i) (fun v => Is01 v (∀ c, inB T.1.1.length T.1.2.length c → c < 320 → S.2 c = T.2 c)) := by
  intro j
  induction j with
  | zero =>
    intro i f h1 h2 h3
    obtain ⟨f, rfl⟩ : ∃ j, f = j + 1 := ⟨f - 1, by omega⟩
    unfold tw_isLikeHead_l31
    exact Ev.g (by omega) (Ev.r (Is01.yes (fun c hc h4 => h3 c (by omega) hc)))
  | succ j ih =>
    intro i f h1 h2 h3
    obtain ⟨f, rfl⟩ : ∃ j, f = j + 1 := ⟨f - 1, by omega⟩
    have ed : w32 (Int.tdiv (i : Int) 10) = ((i / 10 : Nat) : Int) := by rw [show (10 : Int) = ((10 : Nat) : Int) from rfl, ← Int.ofNat_tdiv, w32_i (by omega) (by omega)]
    have em : w32 (Int.tmod (i : Int) 10) = ((i % 10 : Nat) : Int) := by rw [show (10 : Int) = ((10 : Nat) : Int) from rfl, ← Int.ofNat_tmod, w32_i (by omega) (by omega)]
    have nx : (inB T.1.1.length T.1.2.length i → S.2 i = T.2 i) → Ev (tw_isLikeHead_l31 N h τ u (some 1) f ((i + 1 : Nat) : Int)) (fun v => Is01 v (∀ c, inB T.1.1.length T.1.2.length c → c < 320 → S.2 c = T.2 c)) := fun z => ih (i + 1) f (by omega) (by omega) (fun c hc => by
      by_cases d : c = i
      · rw [d]; exact z
      · exact h3 c (by omega))
    have J68 : ¬ inB T.1.1.length T.1.2.length i → Ev (tw_isLikeHead_l31_j68 N h τ u i (tw_isLikeHead_l31 N h τ u (some 1) f) (some 1)) (fun v => Is01 v (∀ c, inB T.1.1.length T.1.2.length c → c < 320 → S.2 c = T.2 c)) := by
      intro n
      unfold tw_isLikeHead_l31_j68 tw_isLikeHead_l31_j69 tw_isLikeHead_l31_j105
      rw [inc32 (by omega)]
      exact Ev.g rfl (nx (fun z => absurd z n))
    unfold tw_isLikeHead_l31
    rw [ed, em, tn, k'.1, k'.2.1]
    refine Ev.f (by omega) (Ev.g (by omega) ?_)
    by_cases c1 : T.1.1.length ≤ i / 10
    · exact Ev.g (by omega) (J68 (fun z => by unfold inB at z; omega))
    · refine Ev.f (by omega) (Ev.g (by omega) ?_)
      by_cases c2 : T.1.2.length ≤ i % 10
      · exact Ev.g (by omega) (J68 (fun z => by unfold inB at z; omega))
      · refine Ev.f (by omega) ?_
        have ib : inB T.1.1.length T.1.2.length i := by unfold inB; omega
        have A := k.2.2.2.2 i (by rw [e1, e2]; exact ib)
        have B := k'.2.2.2.2 i ib
        unfold tw_isLikeHead_l31_j69
        rw [show ((12800 : Int) + (i : Int)).toNat = 320 * 40 + i by omega, show (320 * (u : Int) + (i : Int)).toNat = 320 * u + i by omega]
        refine Ev.f (by decide) (Ev.g (by omega) (Ev.g (by omega) (Ev.c (t_alike hN m60 A B) (fun v _ hv => ?_))))
        unfold tw_isLikeHead_l31_j105
        rw [inc32 (by omega)]
        rcases hv with ⟨ev, hv⟩ | ⟨ev, hv⟩
        · exact Ev.g (by omega) (nx (fun _ => hv))
        · exact Ev.f (fun z => z ev) (Ev.r (Is01.no (fun z => hv (z i ib (by omega)))))
/-- the working sheet compared with its version by the twin -/
theorem t_isLikeHead {hd : Nat} (hN : 500 ≤ N) (R : Rl x h t nv pa un fs Gs g own rt σ τ) (hh : tw_head h τ = some (hd : Int)) (h4 : hd < nv) : Ev (tw_isLikeHead N h τ) (fun v => Is01 v (LikeS (Gs 0) (Gs (81 + hd)))) := by
  obtain ⟨c5, n1, n4, pu, c8, p4, u4⟩ := R.c5
  have v0 : rtV nv pa un 0 := Or.inl rfl
  have vh : rtV nv pa un (81 + hd) := by unfold rtV; omega
  have k := R.shT v0
  have k' := R.shT vh
  have e81 : tsN fs (81 + hd) = hd := by unfold tsN; rw [if_neg (by omega), if_neg (by omega), if_neg (by omega)]; omega
  rw [e81] at k'
  have l0 := R.2.1.len v0
  have l1 := R.2.1.len vh
  have m60 := R.2.1.2.2.2.1.2.1
  have ln := ShT.ln (u := 40) k
  have ln' := k'.ln
  unfold tw_isLikeHead
  refine Ev.e hh (Ev.c (t_like2 (s := 40) (ax := 0) (by omega) (by decide) (by omega) ln.1.1 ln.1.2 ln'.1.1 ln'.1.2 l0.1) (fun v _ hv => ?_))
  rcases hv with ⟨ev, h1⟩ | ⟨ev, h1⟩
  · refine Ev.f (by omega) (Ev.c (t_like2 (s := 40) (ax := 1) (by omega) (by decide) (by omega) ln.2.1 ln.2.2 ln'.2.1 ln'.2.2 l0.2) (fun v _ hv => ?_))
    rcases hv with ⟨ev, h2⟩ | ⟨ev, h2⟩
    · refine Ev.g (by omega) ((t_head_l hN m60 k k' (by omega) h1 h2 320 0 N (by omega) (by omega) (fun c hc => by omega)).m (fun v hv => hv.cg ?_))
      unfold LikeS
      constructor
      · intro z
        exact ⟨h1, h2, fun c hc => z c hc (by unfold inB at hc; omega)⟩
      · rintro ⟨-, -, z⟩ c hc -
        exact z c hc
    · exact Ev.f (fun z => z ev) (Ev.r (Is01.no (fun z => h2 z.2.1)))
  · exact Ev.g ev (Ev.r (Is01.no (fun z => h1 z.1)))
/-- total -/
theorem op_total {w : Int} (hN : 2000 ≤ N) (R : RL x h t σ τ) : E2 (x1_total N x w σ) (tw_total N h w τ) (OpA x h t σ τ) := by
  obtain ⟨nv, pa, un, fs, Gs, g, own, rt, R⟩ := R
  have l := R.1.1
  have Rt := R.t0 (v := 0)
  have e4 := l.R (4, 2) (by decide)
  have t2 := l.T (2, 104, 40) (by decide)
  have e6 := l.R (6, 3) (by decide)
  have t3 := l.T (3, 100, 6) (by decide)
  (try dsimp only at e4 t2 e6 t3)
  obtain ⟨c5, n1, n4, pu, c8, p4, u4⟩ := Rt.c5
  obtain ⟨-, c13, c14, -⟩ := R.1.2.2.1
  obtain ⟨-, d16, d17, -⟩ := Rt.2.1.2.1
  obtain ⟨b1, ⟨br, b2, b3, b4, b5⟩, b6, b7⟩ := Rt.br
  obtain ⟨hd, hl, h1, h2⟩ := R.head
  obtain ⟨hd', -, h1', h2'⟩ := Rt.head
  have eh : (hd : Int) = hd' := by rw [h1] at h1'; exact Option.some.inj h1'
  rw [← eh] at h2'
  unfold x1_total tw_total
  have J : ∀ {y : Option (Int × gMem)}, (w < 10 ∨ 15 < w) → y = some (-1, wI τ h 0 0) → E2 (x1_total_j22 N σ x w) (if w = 0 then some (mI (wI τ h 0 0) h 8, wI τ h 0 0) else if w = 1 then some (mI (wI τ h 0 0) h 12, wI τ h 0 0) else if w = 2 then (tw_head h (wI τ h 0 0)).bind (fun x9 => some (x9, wI τ h 0 0)) else if w = 3 then (tw_unsettled N h (wI τ h 0 0)).bind (fun x12 => some (x12, wI τ h 0 0)) else if w = 4 then some (mI (wI τ h 0 0) h 16, wI τ h 0 0) else if w = 5 then some (mI (wI τ h 0 0) h 17, wI τ h 0 0) else if w = 6 then some (mI (wI τ h 0 0) h 25, wI τ h 0 0) else if w = 7 then some (mI (wI τ h 0 0) h 40, wI τ h 0 0) else if w = 8 then some (mI (wI τ h 0 0) h 14, wI τ h 0 0) else if w = 9 then (tw_isLikeHead N h (wI τ h 0 0)).bind (fun x25 => if x25 = 0 then some (0, wI τ h 0 0) else some (1, wI τ h 0 0)) else y) (OpA x h t σ τ) := by
    intro y hw hy
    unfold x1_total_j22
    by_cases w0 : w = 0
    · refine E2.lg w0 (E2.rg w0 (E2.lg l.1.1 (E2.r ?_)))
      rw [c5, c8]; exact OpQ.same R
    refine E2.lf w0 (E2.rf w0 ?_)
    by_cases w1 : w = 1
    · refine E2.lg w1 (E2.rg w1 (E2.lg l.1.1 (E2.r ?_)))
      rw [b3, b4]; exact OpQ.same R
    refine E2.lf w1 (E2.rf w1 ?_)
    by_cases w2 : w = 2
    · exact E2.lg w2 (E2.rg w2 (E2.lg l.1.1 (E2.le h1 (E2.re h2' (E2.r (OpQ.same R))))))
    refine E2.lf w2 (E2.rf w2 ?_)
    by_cases w3 : w = 3
    · obtain ⟨u, g1, g2⟩ := Rt.uns hN
      exact E2.lg w3 (E2.rg w3 (E2.lg l.1.1 (E2.le g1 (E2.re g2 (E2.r (OpQ.same R))))))
    refine E2.lf w3 (E2.rf w3 ?_)
    by_cases w4 : w = 4
    · refine E2.lg w4 (E2.rg w4 (E2.lg l.1.1 (E2.r ?_)))
      rw [c13, d16]; exact OpQ.same R
    refine E2.lf w4 (E2.rf w4 ?_)
    by_cases w5 : w = 5
    · refine E2.lg w5 (E2.rg w5 (E2.lg l.1.1 (E2.r ?_)))
      rw [c14, d17]; exact OpQ.same R
    refine E2.lf w5 (E2.rf w5 ?_)
    by_cases w6 : w = 6
    · refine E2.lg w6 (E2.rg w6 (E2.lg l.1.1 (E2.r ?_)))
      have p := Rt.2.2.1.2.2.2.1
      unfold Rpt at p
      rw [p]; exact OpQ.same R
    refine E2.lf w6 (E2.rf w6 ?_)
    by_cases w7 : w = 7
    · refine E2.lg w7 (E2.rg w7 (E2.lg l.1.1 (E2.r ?_)))
      obtain ⟨k, -, k1, k2, -⟩ := Rt.2.2.1.1
      rw [k1, k2]; exact OpQ.same R
    refine E2.lf w7 (E2.rf w7 ?_)
    by_cases w8 : w = 8
    · refine E2.lg w8 (E2.rg w8 (E2.lg l.1.1 (E2.r ?_)))
      rw [b7.1]; exact OpQ.same R
    refine E2.lf w8 (E2.rf w8 ?_)
    by_cases w9 : w = 9
    · have vr := R.ver hl
      obtain ⟨v, ev, hv⟩ := c_isLike (N := N) (by omega) l.kc l.z0 R.c0.2 (R.shC (show rtV nv pa un (81 + hd) by unfold rtV; omega))
      obtain ⟨v', ev', hv'⟩ := t_isLikeHead (N := N) (by omega) Rt h2' hl
      have evv := hv.uniq hv'
      subst evv
      refine E2.lg w9 (E2.rg w9 (E2.lg l.1.1 (E2.le h1 ?_)))
      rw [e4, tn, vr.2, R.c0.1]
      refine E2.lg t2.1 (E2.lg (by rw [t2.2]; omega) (E2.lg vr.1 (E2.lg R.c0.2.1.1 (E2.le ev (E2.re ev' ?_)))))
      by_cases z : v = 0
      · exact E2.lg z (E2.rg z (E2.r (OpQ.same R)))
      · exact E2.lf z (E2.rf z (E2.r (OpQ.same R)))
    refine E2.lf w9 (E2.rf w9 ?_)
    rw [hy]
    exact E2.r (OpQ.same R)
  refine E2.rl ?_
  by_cases c1 : w < 10
  · refine E2.lg c1 (J (Or.inl c1) ?_)
    rw [t_in, Option.bind_some, if_neg (show ¬ (10 ≤ w ∧ w ≤ 15) by omega), if_pos rfl]
  · refine E2.lf c1 ?_
    by_cases c2 : 15 < w
    · refine E2.lg c2 (J (Or.inr c2) ?_)
      rw [t_in, Option.bind_some, if_neg (show ¬ (10 ≤ w ∧ w ≤ 15) by omega), if_pos rfl]
    · refine E2.lf c2 (E2.lg l.1.1 ?_)
      obtain ⟨k, hk, rfl⟩ : ∃ k : Nat, k < 6 ∧ w = ((10 + k : Nat) : Int) := ⟨(w - 10).toNat, by omega, by omega⟩
      rw [e6, show (((10 + k : Nat) : Int) - 10).toNat = k by omega, t_in, Option.bind_some, if_pos (show 10 ≤ ((10 + k : Nat) : Int) ∧ ((10 + k : Nat) : Int) ≤ 15 by omega)]
      refine E2.lg t3.1 (E2.lg (by rw [t3.2]; omega) ?_)
      iterate 10 refine E2.rf (by omega) ?_
      refine E2.rf (by decide) (E2.rg (by omega) (E2.r ?_))
      rw [(b1 k hk).1]
      exact OpQ.same R
end Alike3
