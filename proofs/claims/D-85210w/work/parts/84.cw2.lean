/-! ===== PHASE 2: the component's values: texts, comparing ===== -/
section CoWorth2
variable {N w u : Nat} {σ σ' s : gMem} {v a b : Vl}
/-- a text constant -/
def Kx (σ : gMem) (a : Nat) (t : List Int) : Prop := mT σ a = 90 ∧ mN σ a = t.length ∧ ∀ j, j < t.length → mI σ a j = gl t j
theorem Kx.wp (x : Ex (Wp w) σ σ') (ws : WS σ w) {q : Nat} {t : List Int} (g : Kx σ q t) : Kx σ' q t := by
  refine ⟨by rw [x.rT]; exact g.1, by rw [x.rN]; exact g.2.1, fun j hj => ?_⟩
  rw [x.rI]
  · exact g.2.2 j hj
  · intro p
    rcases p with p | p
    · have := ws.1; rw [← p, g.1] at this; exact absurd this (by decide)
    · have := ws.2.2.1; rw [← p, g.1] at this; exact absurd this (by decide)
/-- a text of i bytes that grows -/
def VT (σ : gMem) (w : Nat) (t : List Int) : Prop := mI σ w 0 = 2 ∧ mI σ w 1 = t.length ∧ mL σ w 2 = 0 ∧ t.length ≤ 24 ∧ ∀ i, i < t.length → mI σ (w + 1) i = gl t i
theorem VT.vw {t : List Int} (g : VT σ w t) (hr : ∀ c ∈ t, 32 ≤ c ∧ c ≤ 126) : VW σ w (vTx t) := ⟨VOk.tx g.2.2.2.1 hr, g.1, g.2.1, g.2.2.1, g.2.2.2.2⟩
/-- one byte more -/
theorem VT.snoc {t : List Int} {x : Int} (g : VT σ w t) (h : t.length < 24) (h1 : -128 ≤ x) (h2 : x ≤ 127) : VT (wI (wI σ (w + 1) t.length x) w 1 ((t.length + 1 : Nat) : Int)) w (t ++ [x]) := by
  refine ⟨?_, ?_, ?_, by rw [List.length_append, List.length_singleton]; omega, fun i hi => ?_⟩
  · rw [mI_wI, if_neg (by omega), mI_wI, if_neg (by omega)]; exact g.1
  · rw [mI_wI, if_pos ⟨rfl, rfl⟩, w32_i (by omega) (by omega), List.length_append, List.length_singleton]
  · rw [mL_wI, mL_wI]; exact g.2.2.1
  · rw [List.length_append, List.length_singleton] at hi
    rw [mI_wI, if_neg (by omega), mI_wI]
    by_cases e : i = t.length
    · rw [if_pos ⟨rfl, e⟩, e, gl_app2 (Nat.le_refl _), Nat.sub_self, w32_i (by omega) (by omega)]; rfl
    · rw [if_neg (fun q => e q.2), gl_app1 (by omega)]; exact g.2.2.2.2 i (by omega)
theorem c_spell_l {q : Nat} {t : List Int} {K : gMem → Option gMem} {Φ : gMem → Prop} {σ0 : gMem} (hr : ∀ c ∈ t, 32 ≤ c ∧ c ≤ 126) (h24 : t.length ≤ 24) (hK : ∀ s', Ex (Wp w) σ0 s' → VT s' w t → Ev (K s') Φ) : ∀ (m i f : Nat) (s : gMem), i + m = t.length → m < f → WS s w → Kx s q t → Ex (Wp w) σ0 s → VT s w (t.take i) → Ev (x5_spell_l2 N w q K f i s) Φ := by
  intro m
  induction m with
  | zero =>
    intro i f s h1 h2 ws kx X vt
    obtain ⟨f, rfl⟩ : ∃ j, f = j + 1 := ⟨f - 1, by omega⟩
    unfold x5_spell_l2
    refine Ev.g kx.1 ?_
    rw [kx.2.1, w32_i (by omega) (by omega)]
    refine Ev.g (by omega) (hK s X ?_)
    rw [List.take_of_length_le (by omega)] at vt; exact vt
  | succ m ih =>
    intro i f s h1 h2 ws kx X vt
    obtain ⟨f, rfl⟩ : ∃ j, f = j + 1 := ⟨f - 1, by omega⟩
    have hl : (t.take i).length = i := by rw [List.length_take]; omega
    have hc := hr _ (gl_mem (l := t) (i := i) (by omega))
    unfold x5_spell_l2
    refine Ev.g kx.1 ?_
    rw [kx.2.1, w32_i (by omega) (by omega)]
    refine Ev.f (by omega) (Ev.g ws.1 (Ev.g (by omega) ?_))
    rw [ws.2.1]
    refine Ev.g ws.2.2.1 (Ev.g (by rw [vt.2.1, ws.2.2.2, hl]; omega) (Ev.l (Ev.l ?_)))
    rw [tn, kx.2.2 i (by omega), bByte_i (by omega) (by omega), vt.2.1, tn, mI_wI, if_neg (by omega), vt.2.1, inc32 (by omega), inc32 (by omega)]
    have vt' := vt.snoc (x := gl t i) (by omega) (by omega) (by omega)
    have X' : Ex (Wp w) s (wI (wI s (w + 1) (t.take i).length (gl t i)) w 1 (((t.take i).length + 1 : Nat) : Int)) := (Ex.rf.I Wp.t).I Wp.o
    refine ih (i + 1) f _ (by omega) (by omega) (ws.ex X') (kx.wp X' ws) (X.tr X') ?_
    have e : t.take (i + 1) = t.take i ++ [gl t i] := by
      rw [List.take_succ]
      unfold gl
      rw [List.getElem?_eq_getElem (show i < t.length by omega)]; rfl
    rw [e]; exact vt'
/-- digits, the last one first -/
def rdg : Nat → Nat → List Int
  | 0, _ => []
  | f + 1, m => (48 + ((m % 10 : Nat) : Int)) :: (if 0 < m / 10 then rdg f (m / 10) else [])
theorem rdg_rev : ∀ (f m : Nat), (rdg f m).reverse = dg f m := by
  intro f
  induction f with
  | zero => intro m; rfl
  | succ f ih =>
    intro m
    unfold rdg dg
    by_cases h : m < 10
    · rw [if_pos h, Nat.div_eq_of_lt h, if_neg (by omega), Nat.mod_eq_of_lt h]; rfl
    · rw [if_neg h, if_pos (by omega), List.reverse_cons, ih]
theorem rdg_len (f m : Nat) : (rdg f m).length = (dg f m).length := by rw [← rdg_rev, List.length_reverse]
theorem c_digits_l {K : gMem → Option gMem} {Φ : gMem → Prop} {σ0 : gMem} {v5 : Int} : ∀ (f : Nat) (left : Nat) (s : gMem) (t : List Int) (g : Nat), left < 10 ^ f → f < g → 0 < f → t.length + f ≤ 24 → WS s w → Ex (Wp w) σ0 s → VT s w t → f ≤ 18 →
    (∀ s', Ex (Wp w) σ0 s' → VT s' w (t ++ rdg f left) → Ev (K s') Φ) → Ev (x5_digits_l46 N w v5 K g left s) Φ := by
  intro f
  induction f with
  | zero => intro left s t g _ _ h; omega
  | succ f ih =>
    intro left s t g h1 h2 _ h4 ws X vt h18 hK
    obtain ⟨g, rfl⟩ : ∃ j, g = j + 1 := ⟨g - 1, by omega⟩
    have hb : (48 : Int) + Int.tmod (left : Int) 10 = 48 + ((left % 10 : Nat) : Int) := by rw [Int.tmod_eq_emod_of_nonneg (by omega)]; omega
    have hlt : left < 10 ^ 18 := Nat.lt_of_lt_of_le h1 (Nat.pow_le_pow_right (by decide) h18)
    have e2 : w64 (Int.tdiv (left : Int) 10) = ((left / 10 : Nat) : Int) := by
      rw [Int.tdiv_eq_ediv_of_nonneg (by omega), w64_i (by omega) (by omega)]; omega
    unfold x5_digits_l46
    refine Ev.g ws.1 ?_
    rw [ws.2.1]
    refine Ev.g ws.2.2.1 (Ev.g (by rw [vt.2.1, ws.2.2.2]; omega) (Ev.l (Ev.l ?_)))
    rw [hb, bByte_i (by omega) (by omega), vt.2.1, tn, mI_wI, if_neg (show ¬ (w = w + 1 ∧ 1 = t.length) by omega), vt.2.1, inc32 (by omega), e2]
    have vt' := vt.snoc (x := 48 + ((left % 10 : Nat) : Int)) (by omega) (by omega) (by omega)
    have X' : Ex (Wp w) s (wI (wI s (w + 1) t.length (48 + ((left % 10 : Nat) : Int))) w 1 ((t.length + 1 : Nat) : Int)) := (Ex.rf.I Wp.t).I Wp.o
    by_cases c : 0 < left / 10
    · refine Ev.g (gcmp_pos.mpr (by omega)) ?_
      have hf : 0 < f := by
        rcases Nat.eq_zero_or_pos f with e | e
        · rw [e] at h1; omega
        · exact e
      refine ih (left / 10) _ (t ++ [48 + ((left % 10 : Nat) : Int)]) g ?_ (by omega) hf (by rw [List.length_append, List.length_singleton]; omega) (ws.ex X') (X.tr X') vt' (by omega) (fun s' Y z => hK s' Y ?_)
      · rw [Nat.div_lt_iff_lt_mul (by decide), ← Nat.pow_succ]; exact h1
      · unfold rdg
        rw [if_pos c]
        rw [List.append_assoc] at z; exact z
    · refine Ev.f (fun q => by have := gcmp_pos.mp q; omega) (hK _ (X.tr X') ?_)
      unfold rdg
      rw [if_neg c]; exact vt'
theorem c_rev_l {K : gMem → Option gMem} {Φ : gMem → Prop} {σ0 : gMem} : ∀ (m i j g : Nat) (s : gMem), j ≤ i + m → i ≤ j + 1 → j < 24 → m < g → WS s w → Ex (Wp w) σ0 s → (∀ k, i ≤ k → k ≤ j → -128 ≤ mI s (w + 1) k ∧ mI s (w + 1) k ≤ 127) →
    (∀ s', Ex (Wp w) σ0 s' → (∀ k, mI s' w k = mI s w k ∧ mL s' w k = mL s w k) → (∀ k, mI s' (w + 1) k = if i ≤ k ∧ k ≤ j then mI s (w + 1) (i + j - k) else mI s (w + 1) k) → Ev (K s') Φ) → Ev (x5_digits_l100 N w K g i j s) Φ := by
  intro m
  induction m with
  | zero =>
    intro i j g s h1 h2 h3 h4 ws X hb hK
    obtain ⟨g, rfl⟩ : ∃ j, g = j + 1 := ⟨g - 1, by omega⟩
    unfold x5_digits_l100
    refine Ev.g (by omega) (hK s X (fun k => ⟨rfl, rfl⟩) (fun k => ?_))
    by_cases e : i ≤ k ∧ k ≤ j
    · rw [if_pos e]; congr 1; omega
    · rw [if_neg e]
  | succ m ih =>
    intro i j g s h1 h2 h3 h4 ws X hb hK
    obtain ⟨g, rfl⟩ : ∃ j, g = j + 1 := ⟨g - 1, by omega⟩
    unfold x5_digits_l100
    by_cases c : j ≤ i
    · refine Ev.g (by omega) (hK s X (fun k => ⟨rfl, rfl⟩) (fun k => ?_))
      by_cases e : i ≤ k ∧ k ≤ j
      · rw [if_pos e]; congr 1; omega
      · rw [if_neg e]
    · refine Ev.f (by omega) (Ev.g ws.1 ?_)
      rw [ws.2.1, tn, tn]
      have X1 : Ex (Wp w) s (wI s (w + 1) i (mI s (w + 1) j)) := Ex.rf.I Wp.t
      have ws1 := ws.ex X1
      refine Ev.g ws.2.2.1 (Ev.g (by rw [ws.2.2.2]; omega) (Ev.g (by rw [ws.2.2.2]; omega) (Ev.g (hb j (by omega) (by omega)) (Ev.g (by rw [ws.2.2.2]; omega) (Ev.l ?_)))))
      rw [ws1.2.1]
      refine Ev.g ws1.2.2.1 (Ev.g (hb i (by omega) (by omega)) (Ev.g (by rw [ws1.2.2.2]; omega) (Ev.l ?_)))
      have X2 : Ex (Wp w) s (wI (wI s (w + 1) i (mI s (w + 1) j)) (w + 1) j (mI s (w + 1) i)) := X1.I Wp.t
      have rd : ∀ k, mI (wI (wI s (w + 1) i (mI s (w + 1) j)) (w + 1) j (mI s (w + 1) i)) (w + 1) k = if k = j then mI s (w + 1) i else if k = i then mI s (w + 1) j else mI s (w + 1) k := by
        intro k
        rw [mI_wI]
        by_cases e : k = j
        · rw [if_pos ⟨rfl, e⟩, if_pos e, mI32]
        · rw [if_neg (fun q => e q.2), if_neg e, mI_wI]
          by_cases e' : k = i
          · rw [if_pos ⟨rfl, e'⟩, if_pos e', mI32]
          · rw [if_neg (fun q => e' q.2), if_neg e']
      rw [inc32 (by omega), show w32 ((j : Int) + -1) = ((j - 1 : Nat) : Int) by rw [w32_i (by omega) (by omega)]; omega]
      refine ih (i + 1) (j - 1) g _ (by omega) (by omega) (by omega) (by omega) (ws.ex X2) (X.tr X2) (fun k a b => ?_) (fun s' Y z1 z2 => hK s' Y (fun k => ?_) (fun k => ?_))
      · rw [rd, if_neg (by omega), if_neg (by omega)]; exact hb k (by omega) (by omega)
      · have := z1 k
        rw [mI_wI, if_neg (by omega), mI_wI, if_neg (by omega), mL_wI, mL_wI] at this
        exact this
      · rw [z2 k]
        by_cases e : i + 1 ≤ k ∧ k ≤ j - 1
        · rw [if_pos e, rd, if_neg (by omega), if_neg (by omega), if_pos (by omega)]
          congr 1; omega
        · rw [if_neg e, rd]
          by_cases e1 : k = j
          · rw [if_pos e1, if_pos (by omega)]; congr 1; omega
          · rw [if_neg e1]
            by_cases e2 : k = i
            · rw [if_pos e2, if_pos (by omega)]; congr 1; omega
            · rw [if_neg e2, if_neg (by omega)]
theorem c_digits {n : Int} (ws : WS σ w) (hN : 30 ≤ N) (h1 : -1000000000000000 ≤ n) (h2 : n ≤ 1000000000000000) (vt : VT σ w []) : Ev (x5_digits N w n σ) (fun r => HSw w σ r (vTx (decs n))) := by
  -- a text of one sign or none, then digits
  have J : ∀ (s : gMem) (p : List Int) (m : Nat), WS s w → Ex (Wp w) σ s → VT s w p → p.length ≤ 1 → m ≤ 1000000000000000 → decs n = p ++ dg 17 m → Ev (x5_digits_j39 N w m s) (fun r => HSw w σ r (vTx (decs n))) := by
    intro s p m ws1 X vt1 hp hm hd
    have hl : (dg 17 m).length ≤ 17 := dg_len _ _
    have er : ∀ k, k < (dg 17 m).length → gl (dg 17 m) k = gl (rdg 17 m) ((dg 17 m).length - 1 - k) := by
      intro k hk
      have hk' : k < (rdg 17 m).length := by rw [rdg_len]; exact hk
      conv => lhs; rw [← rdg_rev]
      unfold gl
      rw [List.getElem?_reverse hk', rdg_len]
    have hlp : 0 < (dg 17 m).length := by
      show 0 < (dg (16 + 1) m).length
      unfold dg; split <;> simp
    unfold x5_digits_j39
    refine Ev.g ws1.1 ?_
    rw [vt1.2.1]
    refine c_digits_l (σ0 := σ) 17 m s p N (Nat.lt_of_le_of_lt hm (by decide)) (by omega) (by decide) (by omega) ws1 X vt1 (by decide) (fun s2 X2 v2 => ?_)
    have ws2 := ws.ex X2
    have hl2 : (p ++ rdg 17 m).length = p.length + (dg 17 m).length := by rw [List.length_append, rdg_len]
    refine Ev.g ws2.1 ?_
    rw [v2.2.1, hl2, show w32 (((p.length + (dg 17 m).length : Nat) : Int) - 1) = ((p.length + (dg 17 m).length - 1 : Nat) : Int) by rw [w32_i (by omega) (by omega)]; omega]
    refine c_rev_l (σ0 := σ) 24 p.length (p.length + (dg 17 m).length - 1) N s2 (by omega) (by omega) (by omega) (by omega) ws2 X2 (fun k a b => ?_) (fun s3 X3 z1 z2 => Ev.r ⟨X3, ?_⟩)
    · rw [v2.2.2.2.2 k (by rw [hl2]; omega), gl_app2 a]
      have : gl (rdg 17 m) (k - p.length) ∈ dg 17 m := by
        rw [← rdg_rev, List.mem_reverse]
        exact gl_mem (by rw [rdg_len]; omega)
      have := dg_rng _ _ _ this
      omega
    · refine VT.vw ⟨by rw [(z1 0).1]; exact v2.1, by rw [(z1 1).1, v2.2.1, hl2, hd, List.length_append], by rw [(z1 2).2]; exact v2.2.2.1, by rw [hd, List.length_append]; omega, fun i hi => ?_⟩ (decs_rng n)
      rw [hd, List.length_append] at hi
      rw [z2 i, hd]
      by_cases e : i < p.length
      · rw [if_neg (by omega), gl_app1 e, v2.2.2.2.2 i (by rw [hl2]; omega), gl_app1 e]
      · rw [if_pos (by omega), gl_app2 (by omega), v2.2.2.2.2 _ (by rw [hl2]; omega), gl_app2 (by omega), er _ (by omega)]
        congr 1; omega
  have fu : ∀ m : Nat, m ≤ 1000000000000000 → dg 20 m = dg 17 m := by
    intro m hm
    have F : ∀ (k f m : Nat), m < 10 ^ f → 0 < f → dg (f + k) m = dg f m := by
      intro k f
      induction f with
      | zero => intro m _ h; omega
      | succ f ih =>
        intro m hm _
        rw [show f + 1 + k = f + k + 1 by omega]
        unfold dg
        by_cases c : m < 10
        · rw [if_pos c, if_pos c]
        · rw [if_neg c, if_neg c]
          have hf : 0 < f := by
            rcases Nat.eq_zero_or_pos f with e | e
            · rw [e] at hm; omega
            · exact e
          rw [ih (m / 10) (by rw [Nat.div_lt_iff_lt_mul (by decide), ← Nat.pow_succ]; exact hm) hf]
    exact F 3 17 m (Nat.lt_of_le_of_lt hm (by decide)) (by decide)
  unfold x5_digits
  by_cases c : 0 ≤ n
  · obtain ⟨m, rfl⟩ : ∃ m : Nat, n = (m : Int) := ⟨n.toNat, by omega⟩
    refine Ev.g (gcmp_nn.mpr c) ?_
    unfold x5_digits_j27
    refine Ev.g (gcmp_nn.mpr c) (J σ [] m ws Ex.rf vt (by decide) (by omega) ?_)
    unfold decs
    rw [if_neg (by omega), tn, fu m (by omega)]; rfl
  · refine Ev.f (fun q => c (gcmp_nn.mp q)) (Ev.g ws.1 ?_)
    rw [ws.2.1, vt.2.1]
    refine Ev.g ws.2.2.1 (Ev.g (by rw [ws.2.2.2]; decide) (Ev.l (Ev.l ?_)))
    rw [mI_wI, if_neg (by omega), vt.2.1]
    obtain ⟨m, hm⟩ : ∃ m : Nat, -n = (m : Int) := ⟨(-n).toNat, by omega⟩
    have vt' := vt.snoc (x := 45) (by decide) (by decide) (by decide)
    have X' : Ex (Wp w) σ (wI (wI σ (w + 1) ([] : List Int).length 45) w 1 ((([] : List Int).length + 1 : Nat) : Int)) := (Ex.rf.I Wp.t).I Wp.o
    unfold x5_digits_j27
    refine Ev.f (fun q => c (gcmp_nn.mp q)) ?_
    rw [hm, w64_i (by omega) (by omega)]
    refine J _ [45] m (ws.ex X') X' vt' (by decide) (by omega) ?_
    unfold decs
    rw [if_pos (by omega), hm, tn, fu m (by omega)]; rfl
/-- the words that the component tells values by -/
def Ck (σ : gMem) : Prop := Kx σ (mR σ 0 101) tTRUE ∧ Kx σ (mR σ 0 102) tFALSE
theorem c_wantText (ws : WS σ w) (hN : 30 ≤ N) (ck : Ck σ) (g : VW σ w v) (h4 : v.1 ≠ 4) : Ev (x5_wantText N w σ) (fun r => HSw w σ r (wantT v)) := by
  unfold x5_wantText
  refine Ev.g ws.1 ?_
  rw [g.2.1]
  by_cases c2 : v.1 = 2
  · refine Ev.f (fun q => q c2) (Ev.r ?_)
    rw [show wantT v = v by unfold wantT; rw [if_pos c2]]
    exact HSw.rf g
  · refine Ev.g c2 (Ev.l (Ev.l (Ev.l ?_)))
    rw [show wI (wL (wI σ w 0 2) w 2 (((0 : Fin 2) : Nat) : Int)) w 1 0 = w3 σ w 2 0 0 from rfl]
    have X : Ex (Wp w) σ (w3 σ w 2 0 0) := w3_ex
    have vt : VT (w3 σ w 2 0 0) w [] := ⟨w3_0 (by decide), w3_1 (by decide), w3_2 (by decide), by decide, fun i hi => absurd hi (Nat.not_lt_zero i)⟩
    have ws1 := ws.ex X
    have k1 : Kx (w3 σ w 2 0 0) (mR (w3 σ w 2 0 0) 0 101) tTRUE := by rw [X.rR]; exact ck.1.wp X ws
    have k2 : Kx (w3 σ w 2 0 0) (mR (w3 σ w 2 0 0) 0 102) tFALSE := by rw [X.rR]; exact ck.2.wp X ws
    rw [g.2.2.2.1]
    generalize w3 σ w 2 0 0 = s1 at *
    have J53 : ∀ (q : Nat) (t : List Int), Kx s1 q t → (∀ c ∈ t, 32 ≤ c ∧ c ≤ 126) → t.length ≤ 24 → v.1 = 3 → Ev (x5_wantText_j53 N w v.2.1 v.1 q w s1) (fun r => HSw w σ r (vTx t)) := by
      intro q t kx hr ht c3
      unfold x5_wantText_j53 x5_spell
      refine Ev.g ws1.1 (Ev.c (Ψ := fun r => HSw w σ r (vTx t)) (c_spell_l (σ0 := σ) hr ht (fun s' X' vt' => Ev.r ⟨X', vt'.vw hr⟩) t.length 0 N s1 (by omega) (by omega) ws1 kx X vt) (fun r _ q => ?_))
      unfold x5_wantText_j56
      exact Ev.g (by omega) (Ev.r q)
    by_cases c3 : v.1 = 3
    · refine Ev.f (fun q => q c3) ?_
      rw [show wantT v = vTx (if v.2.1 = 1 then tTRUE else tFALSE) by unfold wantT; rw [if_neg c2, if_pos c3]]
      by_cases c1 : v.2.1 = 1
      · rw [if_pos c1]
        exact Ev.f (fun q => q (gcmp_eq.mpr c1)) (J53 _ _ k1 (by decide) (by decide) c3)
      · rw [if_neg c1]
        exact Ev.g (fun q => c1 (gcmp_eq.mp q)) (J53 _ _ k2 (by decide) (by decide) c3)
    · refine Ev.g c3 ?_
      unfold x5_wantText_j56
      by_cases c1 : v.1 = 1
      · obtain ⟨-, b1, b2⟩ := g.1.k1 c1
        rw [show wantT v = vTx (decs v.2.1) by unfold wantT; rw [if_neg c2, if_neg c3, if_pos c1]]
        exact Ev.f (fun q => q c1) (Ev.g ws1.1 (Ev.c (c_digits ws1 hN b1 b2 vt) (fun r _ q => Ev.r (HSw.tr X q))))
      · rw [show wantT v = vTx [] by unfold wantT; rw [if_neg c2, if_neg c3, if_neg c1]]
        exact Ev.g c1 (Ev.r ⟨X, vt.vw (by decide)⟩)
end CoWorth2
