/-! ===== PHASE 2: reading: words: names ===== -/
section Read22
variable {N x h hi all nv sh M lu0 b b' p q op pa pi : Nat} {bA : Nat → Int} {f : Int → List Int × List Int} {σ σ' σ'' τ τ' τ'' s r σ0 τ0 σ1 τ2 : gMem} {p0 pa0 nd k lu : Nat} {W : Nat → gMem → Option gR} {Wt : gMem → Option gMem}
/-- a name's text -/
def nmI (k : Nat) : Nat := ((gnm.getD k []).getD 1 0).toNat
theorem nmI_b : ∀ k, k < 18 → 3 ≤ nmI k ∧ nmI k ≤ 20 ∧ nmk k = nmI k + 27 := by decide
theorem nmI_on : ∀ i, i < 21 → 3 ≤ i → ∃ k, k < 18 ∧ nmI k = i := by decide
theorem nmI_inj : ∀ k, k < 18 → ∀ j, j < 18 → nmI k = nmI j → k = j := by decide
theorem gtx_low : ∀ i, i < 21 → (gtx.getD i []).length < 400 ∧ ∀ j, j < (gtx.getD i []).length → 0 ≤ gl (gtx.getD i []) j ∧ gl (gtx.getD i []) j < 128 := by decide
theorem gtx_dist : ∀ i, i < 21 → ∀ j, j < 21 → gtx.getD i [] = gtx.getD j [] → i = j := by decide
theorem WdA.uq {e i j : Nat} (hi' : i < 21) (hj : j < 21) (a : WdA bA q e (gtx.getD i [])) (b : WdA bA q e (gtx.getD j [])) : i = j := by
  refine gtx_dist i hi' j hj (List.ext_getElem (by have := a.1; have := b.1; omega) (fun k k1 k2 => ?_))
  have e1 := a.2 k k1
  have e2 := b.2 k k2
  rw [e1] at e2
  unfold gl at e2
  rw [List.getElem?_eq_getElem k1, List.getElem?_eq_getElem k2] at e2
  exact e2
theorem c_nm_hit {e v1 : Nat} {K : gMem → Option gR} (hN : 500 ≤ N) (c : CR x hi all nv sh bA f s) (g6 : mI s (x + 1429) 6 = e) (qe : v1 ≤ e) (eh : e ≤ hi) (hk : k < 18) (hit : WdA bA v1 e (gtx.getD (nmI k) [])) : ∀ (m j fu : Nat), j + m = k → m < fu → x6_word_l83 N W (x + 1429) v1 K fu j s = (x6_call N W (x + 1429) (mR s 0 k) v1 s).bind (fun p => gThrR p (fun x23 s25 => some ((.inl (some (vR x23)), s25) : gR))) := by
  obtain ⟨d1, d2, d3, d4, d5, d6, d7⟩ := c.2.2.1
  have kc := c.2.2.2.1
  intro m
  induction m with
  | zero =>
    intro j fu h1 h2
    obtain ⟨fu, rfl⟩ : ∃ i, fu = i + 1 := ⟨fu - 1, by omega⟩
    obtain rfl : j = k := by omega
    obtain ⟨n1, n2, n3⟩ := kc.2.1 j hk
    have nb := nmI_b j hk
    have gb := gtx_low (nmI j) (by omega)
    obtain ⟨bb, y1, y2⟩ := c_spells (p := v1) (q := e) hN c.1 (kc.1 (nmI j) (by omega)) gb.2 gb.1 qe eh
    have yb : bb = true := y2.mpr hit
    subst yb
    have y1' : x6_spells N (x + 1) (v1 : Int) (e : Int) (mR s (mR s 0 j) 1) s = some 1 := by rw [n3]; exact y1
    unfold x6_word_l83
    rw [if_pos c.1.1, d4, if_pos d5, d6, w32_i (by omega) (by omega), if_neg (by omega), if_pos (by omega), tn, d7 j hk, if_pos n1, c.1.2.2.2.1, g6, y1', Option.bind_some, if_neg (by decide), if_pos (by omega)]
  | succ m ih =>
    intro j fu h1 h2
    obtain ⟨fu, rfl⟩ : ∃ i, fu = i + 1 := ⟨fu - 1, by omega⟩
    obtain ⟨n1, n2, n3⟩ := kc.2.1 j (by omega)
    have nb := nmI_b j (by omega)
    have gb := gtx_low (nmI j) (by omega)
    obtain ⟨bb, y1, y2⟩ := c_spells (p := v1) (q := e) hN c.1 (kc.1 (nmI j) (by omega)) gb.2 gb.1 qe eh
    have yb : bb = false := by
      cases z : bb with
      | false => rfl
      | true =>
        have := WdA.uq (by omega) (by have := nmI_b k hk; omega) (y2.mp z) hit
        have := nmI_inj j (by omega) k hk this
        omega
    subst yb
    have y1' : x6_spells N (x + 1) (v1 : Int) (e : Int) (mR s (mR s 0 j) 1) s = some 0 := by rw [n3]; exact y1
    unfold x6_word_l83
    rw [if_pos c.1.1, d4, if_pos d5, d6, w32_i (by omega) (by omega), if_neg (by omega), if_pos (by omega), tn, d7 j (by omega), if_pos n1, c.1.2.2.2.1, g6, y1', Option.bind_some, if_pos rfl, inc32 (by omega)]
    exact ih (j + 1) fu (by omega) (by omega)
theorem c_nm_miss {e v1 : Nat} {K : gMem → Option gR} (hN : 500 ≤ N) (c : CR x hi all nv sh bA f s) (g6 : mI s (x + 1429) 6 = e) (qe : v1 ≤ e) (eh : e ≤ hi) (miss : ∀ i, 3 ≤ i → i < 21 → ¬ WdA bA v1 e (gtx.getD i [])) : ∀ (m j fu : Nat), j + m = 18 → m < fu → x6_word_l83 N W (x + 1429) v1 K fu j s = K s := by
  obtain ⟨d1, d2, d3, d4, d5, d6, d7⟩ := c.2.2.1
  have kc := c.2.2.2.1
  intro m
  induction m with
  | zero =>
    intro j fu h1 h2
    obtain ⟨fu, rfl⟩ : ∃ i, fu = i + 1 := ⟨fu - 1, by omega⟩
    unfold x6_word_l83
    rw [if_pos c.1.1, d4, if_pos d5, d6, w32_i (by omega) (by omega), if_pos (by omega)]
  | succ m ih =>
    intro j fu h1 h2
    obtain ⟨fu, rfl⟩ : ∃ i, fu = i + 1 := ⟨fu - 1, by omega⟩
    obtain ⟨n1, n2, n3⟩ := kc.2.1 j (by omega)
    have nb := nmI_b j (by omega)
    have gb := gtx_low (nmI j) (by omega)
    obtain ⟨bb, y1, y2⟩ := c_spells (p := v1) (q := e) hN c.1 (kc.1 (nmI j) (by omega)) gb.2 gb.1 qe eh
    have yb : bb = false := by
      cases z : bb with
      | false => rfl
      | true => exact absurd (y2.mp z) (miss _ nb.1 (by omega))
    subst yb
    have y1' : x6_spells N (x + 1) (v1 : Int) (e : Int) (mR s (mR s 0 j) 1) s = some 0 := by rw [n3]; exact y1
    unfold x6_word_l83
    rw [if_pos c.1.1, d4, if_pos d5, d6, w32_i (by omega) (by omega), if_neg (by omega), if_pos (by omega), tn, d7 j (by omega), if_pos n1, c.1.2.2.2.1, g6, y1', Option.bind_some, if_pos rfl, inc32 (by omega)]
    exact ih (j + 1) fu (by omega) (by omega)
theorem t_nameOf {i : Nat} (h3 : 3 ≤ i) (h21 : i < 21) : tw_nameOf ((i + 27 : Nat) : Int) τ = some (mR τ 0 (100 + i)) := by
  unfold tw_nameOf
  rcases (by omega : i = 3 ∨ i = 4 ∨ i = 5 ∨ i = 6 ∨ i = 7 ∨ i = 8 ∨ i = 9 ∨ i = 10 ∨ i = 11 ∨ i = 12 ∨ i = 13 ∨ i = 14 ∨ i = 15 ∨ i = 16 ∨ i = 17 ∨ i = 18 ∨ i = 19 ∨ i = 20) with e | e | e | e | e | e | e | e | e | e | e | e | e | e | e | e | e | e <;> subst e <;> rfl
end Read22
