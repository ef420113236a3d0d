/-! ===== PHASE 2: the twin's values at hand ===== -/
section TwVal
theorem gcmp_pos {x y : Int} : 0 < gcmp x y ↔ y < x := by unfold gcmp; split <;> (try split) <;> omega
theorem gcmp_nn {x y : Int} : 0 ≤ gcmp x y ↔ y ≤ x := by unfold gcmp; split <;> (try split) <;> omega
theorem gcmp_np {x y : Int} : gcmp x y ≤ 0 ↔ x ≤ y := by unfold gcmp; split <;> (try split) <;> omega
theorem gcmp_ng {x y : Int} : gcmp x y < 0 ↔ x < y := by unfold gcmp; split <;> (try split) <;> omega
theorem gcmp_eq {x y : Int} : gcmp x y = 0 ↔ x = y := by unfold gcmp; split <;> (try split) <;> omega
variable {N h d : Nat} {σ σ' s : gMem} {v w : Vl}
/-- a value that lies at k of four arrays: kinds, numbers, how long, texts -/
def VG (σ : gMem) (aK aN aL aT k : Nat) (v : Vl) : Prop := VOk v ∧ mI σ aK k = v.1 ∧ (v.1 ≠ 0 → v.1 ≠ 2 → mL σ aN k = v.2.1) ∧ (v.1 = 2 → mI σ aL k = v.2.2.length ∧ ∀ i, i < v.2.2.length → mI σ aT (24 * k + i) = gl v.2.2 i)
abbrev VH (σ : gMem) (h d : Nat) (v : Vl) : Prop := VG σ (h + 33) (h + 34) (h + 35) (h + 36) d v
abbrev VC (σ : gMem) (h c : Nat) (v : Vl) : Prop := VG σ (h + 28) (h + 29) (h + 30) (h + 31) c v
/-- what belongs to the value at depth d -/
def Hp (h d a k : Nat) : Prop := (a = h + 33 ∧ k = d) ∨ (a = h + 34 ∧ k = d) ∨ (a = h + 35 ∧ k = d) ∨ (a = h + 36 ∧ 24 * d ≤ k ∧ k < 24 * d + 24) ∨ a = h + 37
theorem Hp.k : Hp h d (h + 33) d := Or.inl ⟨rfl, rfl⟩
theorem Hp.n : Hp h d (h + 34) d := Or.inr (Or.inl ⟨rfl, rfl⟩)
theorem Hp.l : Hp h d (h + 35) d := Or.inr (Or.inr (Or.inl ⟨rfl, rfl⟩))
theorem Hp.t {k : Nat} (h1 : 24 * d ≤ k) (h2 : k < 24 * d + 24) : Hp h d (h + 36) k := Or.inr (Or.inr (Or.inr (Or.inl ⟨rfl, h1, h2⟩)))
theorem Hp.dd {k : Nat} : Hp h d (h + 37) k := Or.inr (Or.inr (Or.inr (Or.inr rfl)))
def By (σ : gMem) (a : Nat) : Prop := ∀ i, -128 ≤ mI σ a i ∧ mI σ a i ≤ 127
/-- bytes are bytes -/
def TB (σ : gMem) (h : Nat) : Prop := By σ (h + 36) ∧ By σ (h + 31) ∧ By σ (h + 9) ∧ By σ (h + 37)
theorem By.CI {a sp b dp n q : Nat} (x : By s q) (y : ∀ i, i < n → -128 ≤ mI s a (sp + i) ∧ mI s a (sp + i) ≤ 127) : By (wCI s a sp b dp n) q := by
  intro i
  rw [mI_wCI]
  by_cases e : q = b ∧ dp ≤ i ∧ i < dp + n
  · rw [if_pos e]; exact y (i - dp) (by omega)
  · rw [if_neg e]; exact x i
theorem By.I {a k q : Nat} {v : Int} (x : By s q) (y : a = q → -128 ≤ v ∧ v ≤ 127) : By (wI s a k v) q := by
  intro i
  rw [mI_wI]
  by_cases e : q = a ∧ i = k
  · rw [if_pos e]; have := y e.1.symm; rw [w32_i (by omega) (by omega)]; exact this
  · rw [if_neg e]; exact x i
theorem TB.L {a k : Nat} {v : Int} (x : TB s h) : TB (wL s a k v) h := x
theorem TB.I {a k : Nat} {v : Int} (x : TB s h) (y : a = h + 36 ∨ a = h + 31 ∨ a = h + 9 ∨ a = h + 37 → -128 ≤ v ∧ v ≤ 127) : TB (wI s a k v) h :=
  ⟨x.1.I (fun e => y (Or.inl e)), x.2.1.I (fun e => y (Or.inr (Or.inl e))), x.2.2.1.I (fun e => y (Or.inr (Or.inr (Or.inl e)))), x.2.2.2.I (fun e => y (Or.inr (Or.inr (Or.inr e))))⟩
theorem TB.CI {a sp b dp n : Nat} (x : TB s h) (y : ∀ i, i < n → -128 ≤ mI s a (sp + i) ∧ mI s a (sp + i) ≤ 127) : TB (wCI s a sp b dp n) h :=
  ⟨x.1.CI y, x.2.1.CI y, x.2.2.1.CI y, x.2.2.2.CI y⟩
/-- the value at depth d has come to be v, nothing else has changed -/
def HS (h d : Nat) (σ σ' : gMem) (v : Vl) : Prop := Ex (Hp h d) σ σ' ∧ (TB σ h → TB σ' h) ∧ VH σ' h d v
theorem VG.ex {P : Nat → Nat → Prop} {aK aN aL aT k : Nat} (x : Ex P σ σ') (g : VG σ aK aN aL aT k v) (n1 : ¬ P aK k) (n2 : ¬ P aN k) (n3 : ¬ P aL k) (n4 : ∀ i, i < 24 → ¬ P aT (24 * k + i)) : VG σ' aK aN aL aT k v := by
  obtain ⟨g1, g2, g3, g4⟩ := g
  refine ⟨g1, by rw [x.rI n1]; exact g2, fun a b => by rw [x.rL n2]; exact g3 a b, fun a => ⟨by rw [x.rI n3]; exact (g4 a).1, fun i hi => ?_⟩⟩
  rw [x.rI (n4 i (by have := g1.txt.1; omega))]; exact (g4 a).2 i hi
theorem VH.ne {e : Nat} (x : Ex (Hp h d) σ σ') (g : VH σ h e w) (n : e ≠ d) : VH σ' h e w :=
  VG.ex x g (by unfold Hp; omega) (by unfold Hp; omega) (by unfold Hp; omega) (fun i hi => by unfold Hp; omega)
theorem VC.hp {c : Nat} (x : Ex (Hp h d) σ σ') (g : VC σ h c w) : VC σ' h c w :=
  VG.ex x g (by unfold Hp; omega) (by unfold Hp; omega) (by unfold Hp; omega) (fun i hi => by unfold Hp; omega)
theorem VG.e {aK aN aL aT k : Nat} (g : mI σ aK k = 0) : VG σ aK aN aL aT k vE := ⟨VOk.e, g, fun a => absurd rfl a, fun a => by cases a⟩
theorem VG.num {aK aN aL aT k : Nat} {n : Int} (h1 : -1000000000000000 ≤ n) (h2 : n ≤ 1000000000000000) (g : mI σ aK k = 1) (g' : mL σ aN k = n) : VG σ aK aN aL aT k (1, (n, [])) := ⟨VOk.num h1 h2, g, fun _ _ => g', fun a => by cases a⟩
theorem VG.err {aK aN aL aT k : Nat} {n : Int} (h1 : 1 ≤ n) (h2 : n ≤ 7) (g : mI σ aK k = 4) (g' : mL σ aN k = n) : VG σ aK aN aL aT k (vErr n) := ⟨VOk.err h1 h2, g, fun _ _ => g', fun a => by cases a⟩
theorem VG.is {aK aN aL aT k : Nat} {b : Bool} (g : mI σ aK k = 3) (g' : mL σ aN k = if b then 1 else 0) : VG σ aK aN aL aT k (vIs b) := ⟨VOk.is, g, fun _ _ => g', fun a => by cases a⟩
theorem VG.tx {aK aN aL aT k : Nat} {t : List Int} (h1 : t.length ≤ 24) (h2 : ∀ c ∈ t, 32 ≤ c ∧ c ≤ 126) (g : mI σ aK k = 2) (g' : mI σ aL k = t.length) (g'' : ∀ i, i < t.length → mI σ aT (24 * k + i) = gl t i) : VG σ aK aN aL aT k (vTx t) := ⟨VOk.tx h1 h2, g, fun _ a => absurd rfl a, fun _ => ⟨g', g''⟩⟩
theorem dG (hd : d < 200) : (0 : Int) ≤ (d : Int) ∧ (d : Int) < ((200 : Nat) : Int) := by omega
theorem wLI_k {x : Int} {a b : Nat} {y : Int} (h1 : a = b + 1) (hx : g32 x) : mI (wL (wI σ b d x) a d y) b d = x := by rw [mI_wL, mI_wI, if_pos ⟨rfl, rfl⟩]; exact w32_id hx
theorem wLI_n {x : Int} {a b : Nat} {y : Int} (hy : g64 y) : mL (wL (wI σ b d x) a d y) a d = y := by rw [mL_wL, if_pos ⟨rfl, rfl⟩]; exact w64_id hy
theorem HS_kn {x y : Int} (hv : VH (wL (wI σ (h + 33) d x) (h + 34) d y) h d v) : HS h d σ (wL (wI σ (h + 33) d x) (h + 34) d y) v :=
  ⟨(Ex.rf.I Hp.k).L Hp.n, fun t => (t.I (fun e => by omega)).L, hv⟩
theorem t_error_eq {c : Int} (hd : d < 200) : tw_error h d c σ = some (wL (wI σ (h + 33) d 4) (h + 34) d c) := by
  unfold tw_error
  rw [if_pos (dG hd), tn]
  unfold gLet
  dsimp only
  rw [if_pos (dG hd)]
theorem t_error {c : Int} (hd : d < 200) (h1 : 1 ≤ c) (h2 : c ≤ 7) : Ev (tw_error h d c σ) (fun r => HS h d σ r (vErr c)) :=
  ⟨_, t_error_eq hd, HS_kn (VG.err h1 h2 (wLI_k rfl (by decide)) (wLI_n (by omega)))⟩
theorem t_truth {c : Int} (hd : d < 200) : Ev (tw_truth h d c σ) (fun r => HS h d σ r (vIs (decide (c ≠ 0)))) := by
  unfold tw_truth
  refine Ev.g (dG hd) (Ev.l ?_)
  rw [tn]
  by_cases hc : c = 0
  · refine Ev.g hc (Ev.g (dG hd) (Ev.l (Ev.r (HS_kn (VG.is (wLI_k rfl (by decide)) ?_)))))
    rw [wLI_n (by decide), hc]; rfl
  · refine Ev.f hc (Ev.g (dG hd) (Ev.l (Ev.r (HS_kn (VG.is (wLI_k rfl (by decide)) ?_)))))
    rw [wLI_n (by decide), decide_eq_true hc]; rfl
theorem t_number {x : Int} (hd : d < 200) (hx : g64 x) : Ev (tw_number h d x σ) (fun r => HS h d σ r (vBe x)) := by
  have A : ∀ t : Int, t = 0 → vBe x = (1, (x, [])) → (-1000000000000000 ≤ x ∧ x ≤ 1000000000000000) → Ev (tw_number_j21 h d x t σ) (fun r => HS h d σ r (vBe x)) := by
    intro t ht e hb
    unfold tw_number_j21 tw_number_j38
    refine Ev.g ht (Ev.g (dG hd) (Ev.l (Ev.g ht (Ev.g (dG hd) (Ev.l (Ev.r ?_))))))
    rw [tn, e]
    exact HS_kn (VG.num hb.1 hb.2 (wLI_k rfl (by decide)) (wLI_n hx))
  have B : ∀ t : Int, t ≠ 0 → vBe x = vErr 4 → Ev (tw_number_j21 h d x t σ) (fun r => HS h d σ r (vBe x)) := by
    intro t ht e
    unfold tw_number_j21 tw_number_j38
    refine Ev.f ht (Ev.g (dG hd) (Ev.l (Ev.f ht (Ev.g (dG hd) (Ev.l (Ev.r ?_))))))
    rw [tn, e]
    exact HS_kn (VG.err (by decide) (by decide) (wLI_k rfl (by decide)) (wLI_n (by decide)))
  unfold tw_number tw_number_j16
  by_cases h1 : 1000000000000000 < x
  · exact Ev.g (gcmp_pos.mpr h1) (B 1 (by decide) (by unfold vBe; rw [if_pos (Or.inl h1)]))
  · refine Ev.f (fun q => h1 (gcmp_pos.mp q)) ?_
    by_cases h2 : -1000000000000000 ≤ x
    · exact Ev.g (gcmp_nn.mpr h2) (A 0 rfl (by unfold vBe; rw [if_neg (by omega)]) (by omega))
    · exact Ev.f (fun q => h2 (gcmp_nn.mp q)) (B 1 (by decide) (by unfold vBe; rw [if_pos (Or.inr (by omega))]))
theorem t_text_l {at' n : Nat} {fr : Nat} {K : gMem → Option gMem} (hd : d < 200) (hn : n ≤ 24) : ∀ (m i f : Nat) (s : gMem), i + m = n → m < f → ¬ (fr = h + 36 ∧ at' + i < 24 * d + i ∧ 24 * d < at' + n) → mT s fr = 102 → at' + n ≤ mN s fr → By s fr → tw_text_l18 N h d fr at' n K f i s = K (wCI s fr (at' + i) (h + 36) (24 * d + i) m) := by
  intro m
  induction m with
  | zero =>
    intro i f s h1 h2 _ _ _ _
    obtain ⟨f, rfl⟩ : ∃ g, f = g + 1 := ⟨f - 1, by omega⟩
    unfold tw_text_l18
    rw [if_pos (by omega), wCI_zero]
  | succ m ih =>
    intro i f s h1 h2 h3 h4 h5 h6
    obtain ⟨f, rfl⟩ : ∃ g, f = g + 1 := ⟨f - 1, by omega⟩
    unfold tw_text_l18
    have e1 : ((at' : Int) + (i : Int)).toNat = at' + i := by omega
    have e2 : (24 * (d : Int) + (i : Int)).toNat = 24 * d + i := by omega
    rw [if_neg (by omega), if_pos h4, if_pos (by omega), e1, if_pos (h6 _), if_pos (by omega), e2, inc32 (by omega)]
    unfold gLet
    dsimp only
    rw [ih (i + 1) f (wI s (h + 36) (24 * d + i) (mI s fr (at' + i))) (by omega) (by omega) (by omega) h4 h5 (h6.I (fun _ => h6 _))]
    congr 1
    exact wCI_front (by omega)
theorem t_text {at' n fr : Nat} {t : List Int} (hd : d < 200) (hN : 30 ≤ N) (hn : t.length = n) (h24 : n ≤ 24) (hr : ∀ c ∈ t, 32 ≤ c ∧ c ≤ 126) (ho : fr ≠ h + 36) (hq : fr ≠ h + 33) (hq' : fr ≠ h + 35) (hT : mT σ fr = 102) (hL : at' + n ≤ mN σ fr) (hB : By σ fr) (ht : ∀ i, i < n → mI σ fr (at' + i) = gl t i) : Ev (tw_text N h d fr at' n σ) (fun r => HS h d σ r (vTx t)) := by
  unfold tw_text
  refine Ev.g (dG hd) (Ev.l (Ev.g (dG hd) (Ev.l ?_)))
  rw [tn]
  have B' : By (wI (wI σ (h + 33) d 2) (h + 35) d (n : Int)) fr := (hB.I (fun e => absurd e.symm hq)).I (fun e => absurd e.symm hq')
  have e := t_text_l (N := N) (h := h) (d := d) (at' := at') (n := n) (fr := fr) (K := fun s13 => some s13) hd h24 n 0 N (wI (wI σ (h + 33) d 2) (h + 35) d (n : Int)) (by omega) (by omega) (fun q => ho q.1) hT hL B'
  rw [show ((0 : Nat) : Int) = 0 from rfl] at e
  rw [e]
  refine Ev.r ⟨?_, fun t' => ?_, ?_⟩
  · exact ((Ex.rf.I Hp.k).I Hp.l).CI (fun j h1 h2 => Hp.t (by omega) (by omega))
  · exact ((t'.I (fun e => by omega)).I (fun e => by omega)).CI (fun i _ => B' _)
  · refine VG.tx (by omega) hr ?_ ?_ (fun i hi => ?_)
    · rw [mI_wCI, if_neg (by omega), mI_wI, if_neg (by omega), mI_wI, if_pos ⟨rfl, rfl⟩]; exact w32_id (by decide)
    · rw [mI_wCI, if_neg (by omega), mI_wI, if_pos ⟨rfl, rfl⟩, w32_i (by omega) (by omega), hn]
    · rw [mI_wCI, if_pos ⟨rfl, by omega, by omega⟩, mI_wI, if_neg (fun q => hq' q.1), mI_wI, if_neg (fun q => hq q.1), ← ht i (by omega)]
      congr 1; omega
end TwVal
