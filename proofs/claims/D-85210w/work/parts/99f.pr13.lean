/-! ===== PHASE 2: reading: texts in quotes ===== -/
section Read13
variable {N x h hi all nv sh M lu0 b b' p q op pa pi : Nat} {bA : Nat → Int} {f : Int → List Int × List Int} {σ σ' σ'' τ τ' τ'' s r σ0 τ0 σ1 τ2 : gMem} {p0 pa0 nd k lu : Nat}
def KpP (h lu a k : Nat) : Prop := (a = h ∧ k = 19) ∨ (a = h + 9 ∧ lu ≤ k)
theorem t_kept_l {e : Nat} {v3 : Int} (c : TSt τ h bA hi all) (he : e ≤ hi) (g : ∀ k, p ≤ k → k < e → isG (bA k) = true) (hl : lu + 400 ≤ 82400) : ∀ (m i fu : Nat) (s : gMem), p + i + m = e → m < fu → Ex (KpP h lu) τ s → (By τ (h + 9) → By s (h + 9)) → mI s h 19 = ((lu + i : Nat) : Int) → (∀ j, j < i → mI s (h + 9) (lu + j) = bA (p + j)) → Ev (tw_kept_l8 N h e v3 (fun s11 => some (v3, s11)) fu ((p + i : Nat) : Int) s) (fun r => r.1 = v3 ∧ Ex (KpP h lu) τ r.2 ∧ mI r.2 h 19 = ((lu + (e - p) : Nat) : Int) ∧ (∀ j, j < e - p → mI r.2 (h + 9) (lu + j) = bA (p + j)) ∧ (By τ (h + 9) → By r.2 (h + 9))) := by
  have l1 := c.2.2.2.2.2.1
  have l2 := c.2.2.2.2.2.2
  intro m
  induction m with
  | zero =>
    intro i fu s h1 h2 X yb g1 g2
    obtain ⟨fu, rfl⟩ : ∃ j, fu = j + 1 := ⟨fu - 1, by omega⟩
    have : e - p = i := by omega
    unfold tw_kept_l8
    exact Ev.g (by omega) (Ev.r ⟨rfl, X, by rw [this]; exact g1, fun j hj => g2 j (by omega), yb⟩)
  | succ m ih =>
    intro i fu s h1 h2 X yb g1 g2
    obtain ⟨fu, rfl⟩ : ∃ j, fu = j + 1 := ⟨fu - 1, by omega⟩
    have hg := of_decide_eq_true (g (p + i) (by omega) (by omega))
    have e27 : mI s (h + 27) (p + i) = bA (p + i) := by rw [X.rI (fun y => by unfold KpP at y; omega)]; exact c.2.2.1 _ (by omega)
    have eb : bByte (bA (p + i)) = bA (p + i) := bByte_i (by omega) (by omega)
    have e19 : mI (wI s (h + 9) (lu + i) (bA (p + i))) h 19 = ((lu + i : Nat) : Int) := by rw [mIwI1 (by omega)]; exact g1
    unfold tw_kept_l8
    rw [g1, tn, tn, e27, eb]
    refine Ev.f (by omega) (Ev.g (by omega) (Ev.g (by omega) (Ev.l (Ev.l ?_))))
    rw [e19, inc32 (by omega), inc32 (by omega), show p + i + 1 = p + (i + 1) by omega]
    refine ih (i + 1) fu _ (by omega) (by omega) ((X.I (Or.inr ⟨rfl, by omega⟩)).I (Or.inl ⟨rfl, rfl⟩)) (fun z => ((yb z).I (fun _ => by omega)).I (fun _ => by omega)) ?_ (fun j hj => ?_)
    · rw [mI_wI, if_pos ⟨rfl, rfl⟩, w32_i (by omega) (by omega)]; omega
    · rw [mIwI1 (by omega)]
      by_cases d : j = i
      · rw [d, mI_wI, if_pos ⟨rfl, rfl⟩, w32_i (by omega) (by omega)]
      · rw [mIwI1 (by omega)]; exact g2 j (by omega)
theorem t_kept {e : Nat} (hN : 500 ≤ N) (c : TSt τ h bA hi all) (pe : p ≤ e) (he : e ≤ hi) (g : ∀ k, p ≤ k → k < e → isG (bA k) = true) (g1 : mI τ h 19 = lu) (hl : lu + 400 ≤ 82400) : Ev (tw_kept N h p e τ) (fun r => r.1 = (lu : Int) ∧ Ex (KpP h lu) τ r.2 ∧ mI r.2 h 19 = ((lu + (e - p) : Nat) : Int) ∧ (∀ j, j < e - p → mI r.2 (h + 9) (lu + j) = bA (p + j)) ∧ (By τ (h + 9) → By r.2 (h + 9))) := by
  have l2 := c.2.2.2.2.2.1
  have l3 := c.2.2.2.2.2.2
  unfold tw_kept
  rw [g1]
  exact t_kept_l c he g hl (e - p) 0 N τ (by omega) (by omega) Ex.rf (fun z => z) g1 (fun j hj => by omega)
theorem qt_in {all q : Nat} : ∀ (m p : Nat), ∀ e, qt bA all q m p = .inr e → p ≤ e ∧ ∀ k, p ≤ k → k < e → isG (bA k) = true ∧ bA k ≠ 34 := by
  intro m
  induction m with
  | zero => intro p e he; unfold qt at he; cases he
  | succ m ih =>
    intro p e he
    unfold qt at he
    by_cases d1 : bA p = 34
    · rw [if_pos d1] at he; have := Sum.inr.inj he; subst this; exact ⟨Nat.le_refl _, fun k k1 k2 => by omega⟩
    · rw [if_neg d1] at he
      by_cases d2 : bA p = -1
      · rw [if_pos d2] at he; cases he
      · rw [if_neg d2] at he
        by_cases d3 : 24 < p - q
        · rw [if_pos d3] at he; cases he
        · rw [if_neg d3] at he
          cases d4 : isG (bA p) with
          | true =>
            rw [d4, if_pos rfl] at he
            obtain ⟨y1, y2⟩ := ih (p + 1) e he
            refine ⟨by omega, fun k k1 k2 => ?_⟩
            by_cases ek : k = p
            · rw [ek]; exact ⟨d4, d1⟩
            · exact y2 k (by omega) k2
          | false => rw [d4, if_neg (by decide)] at he; cases he
theorem c_quo_l {K : gMem → Option gR} {Φ : gR → Prop} (c : CR x hi all nv sh bA f σ) (qh : q < hi) (hK : ∀ e s, qtS bA all q = .inr e → Ex (Rq x 6) σ s → mI s (x + 1429) 6 = e → Ev (K s) Φ) (hE : ∀ w r, qtS bA all q = .inl w → (r.1 = .inr "SheetBranches$Wrong" ∧ mI r.2 (x + 1429) 12 = 1 ∧ mI r.2 (x + 1429) 13 = w ∧ CF x σ r.2 1) → Φ r) : ∀ (m p fu : Nat) (s : gMem), m + 2 < fu → q < p → p ≤ q + 25 → p ≤ hi → m + p = q + 31 → qtS bA all q = qt bA all q m p → Ex (Rq x 6) σ s → mI s (x + 1429) 6 = p → Ev (x6_quoted_l15 N (x + 1429) q K fu s) Φ := by
  intro m
  induction m with
  | zero => intro p fu s h1 h2 h3; omega
  | succ m ih =>
    intro p fu s h1 h2 h3 h4 h5 h6 X g
    obtain ⟨fu, rfl⟩ : ∃ j, fu = j + 1 := ⟨fu - 1, by omega⟩
    have cf := Rq.cf c X (by omega)
    have cr := c.cf cf
    have tx := cr.1.2.2.2.2.2.2.2
    have l1 := tx.2.2.1
    have l2 := tx.2.2.2
    have ER : ∀ w : Nat, qtS bA all q = .inl w → ∀ w0 : Int, 0 ≤ w0 → w0 ≤ 1000 → (if w0 = hi then (all : Int) else w0) = w → Ev ((x6_wrong (x + 1429) 1 w0 s).bind (fun x9 => if mT (x9.2) (x9.1) = 25 then some ((.inr "SheetBranches$Wrong", x9.2) : gR) else none)) Φ := by
      intro w hw w0 g1 g2 e
      exact (c_throw cr (by decide) ⟨by omega, by omega⟩).m (fun r z => hE w r hw ⟨z.1, z.2.1, by rw [z.2.2.1, e], (cf.tr z.2.2.2).mono (by omega)⟩)
    unfold qt at h6
    unfold x6_quoted_l15
    rw [g, cr.1.2.1]
    refine Ev.g cr.1.1 (Ev.e (c_here cr.1 p) ?_)
    by_cases d1 : bA p = 34
    · rw [if_pos d1] at h6
      exact Ev.g d1 (hK p s h6 X g)
    · rw [if_neg d1] at h6
      refine Ev.f d1 ?_
      by_cases d2 : bA p = -1
      · rw [if_pos d2] at h6
        have ep : p = hi := by
          by_cases z : p < hi
          · have := tx.1 p z; omega
          · omega
        exact Ev.f (fun z => z (by rw [ep])) (ER all h6 p (by omega) (by omega) (by rw [if_pos (by rw [ep])]))
      · rw [if_neg d2] at h6
        have ph : p < hi := tx.lt d2
        refine Ev.g (by omega) ?_
        have w24 : w32 ((p : Int) - (q : Int) - 1) = (p : Int) - q - 1 := w32_i (by omega) (by omega)
        rw [w24]
        by_cases d3 : 24 < p - q
        · rw [if_pos d3] at h6
          exact Ev.f (fun z => z (by omega)) (ER q h6 q (by omega) (by omega) (by rw [if_neg (by omega)]))
        · rw [if_neg d3] at h6
          refine Ev.g (by omega) ?_
          have bp := tx.1 p ph
          rw [cr.1.2.2.2.1, cr.1.2.2.2.2.2.1, tn, cr.1.2.2.2.2.2.2.1 p ph]
          refine Ev.g cr.1.2.2.2.2.1 (Ev.g (by omega) (Ev.e (c_isSign _) ?_))
          have eg : isG (sby (bA p)) = isG (bA p) := by
            unfold isG sby
            split
            · rfl
            · rw [decide_eq_false (by omega), decide_eq_false (by omega)]
          rw [eg]
          cases d4 : isG (bA p) with
          | true =>
            rw [d4, if_pos rfl] at h6
            rw [inc32 (by omega)]
            refine Ev.g (by decide) (Ev.l (ih (p + 1) fu _ (by omega) (by omega) (by omega) (by omega) (by omega) h6 (X.I ⟨rfl, rfl⟩) ?_))
            rw [mI_wI, if_pos ⟨rfl, rfl⟩, w32_i (by omega) (by omega)]
          | false =>
            rw [d4, if_neg (by decide)] at h6
            exact Ev.f (fun z => z rfl) (ER p h6 p (by omega) (by omega) (by rw [if_neg (by omega)]))
/-- what is between quotes -/
def qtx (bA : Nat → Int) (q e : Nat) : List Int := lst (e - (q + 1)) (fun i => bA (q + 1 + i))
/-- a text's node is made -/
theorem c_quo_n {e : Nat} (c : CR x hi all nv sh bA f σ) (hpa : mI σ (x + 1429) 8 = pa) (p4 : pa ≤ 410) (qe : q < e) (e25 : e ≤ q + 26) (eh : e < hi) (g : ∀ k, q + 1 ≤ k → k < e → isG (bA k) = true ∧ bA k ≠ 34) {s32 : gMem} (X : Ex (Rq x 6) σ s32) (g6 : mI s32 (x + 1429) 6 = e) : Ev (if mT s32 (x + 1429) = 6 then gLet (wI s32 (x + 1429) 6 (w32 ((mI s32 (x + 1429) 6) + 1))) (fun s35 => gLet (wI s35 (x + 1429) 8 (w32 ((mI s35 (x + 1429) 8) + 1))) (fun s38 => gLet (wN s38 12 1) (fun s41 => (x6_part (x + 1429) ((q + 1 : Nat) : Int) (w32 ((mI s41 (x + 1429) 6) - 1)) s41).bind (fun x44 => (x14_init (mZ s38) (x44.1) (x44.2)).bind (fun x46 => some ((.inl (some (vR (mZ s38))), x46) : gR)))))) else none) (fun r => ∃ nd σ1, r = (.inl (some (vR nd)), σ1) ∧ CF x σ σ1 2 ∧ mI σ1 (x + 1429) 6 = ((e + 1 : Nat) : Int) ∧ mI σ1 (x + 1429) 8 = ((pa + 1 : Nat) : Int) ∧ (∀ j, j ≠ 6 → j ≠ 8 → mI σ1 (x + 1429) j = mI σ (x + 1429) j) ∧ mT σ1 nd = 12 ∧ LabC σ1 nd (mkT (qtx bA q e))) := by
  have lt := c.lt
  have cf32 := Rq.cf c X (by omega)
  have c32 := c.cf cf32
  have tx := c.1.2.2.2.2.2.2.2
  have h4 : hi ≤ 400 := by have := tx.2.2.1; have := tx.2.2.2; omega
  have Z : mZ s32 = mZ σ := X.rZ
  have i8 : mI (wI s32 (x + 1429) 6 ((e + 1 : Nat) : Int)) (x + 1429) 8 = pa := by rw [mIwI1 (by omega), X.rI (fun y => by unfold Rq at y; omega)]; exact hpa
  refine Ev.g c32.1.1 ?_
  rw [g6, inc32 (by omega)]
  refine Ev.l ?_
  rw [i8, inc32 (by omega)]
  refine Ev.l (Ev.l ?_)
  have cfa := ((cf32.wQ (i := 6) (v := ((e + 1 : Nat) : Int)) (by omega)).wQ (i := 8) (v := ((pa + 1 : Nat) : Int)) (by omega)).wN' (t := 12) (n := 1) (Or.inr trivial) (fun z => by cases z) (by decide)
  have zz : mZ (wI (wI s32 (x + 1429) 6 ((e + 1 : Nat) : Int)) (x + 1429) 8 ((pa + 1 : Nat) : Int)) = mZ σ := Z
  obtain ⟨s41, h41⟩ : ∃ s41, s41 = wN (wI (wI s32 (x + 1429) 6 ((e + 1 : Nat) : Int)) (x + 1429) 8 ((pa + 1 : Nat) : Int)) 12 1 := ⟨_, rfl⟩
  rw [← h41] at cfa ⊢
  rw [zz]
  have cr41 := c.cf cfa
  have i41 : ∀ j, mI s41 (x + 1429) j = mI (wI (wI s32 (x + 1429) 6 ((e + 1 : Nat) : Int)) (x + 1429) 8 ((pa + 1 : Nat) : Int)) (x + 1429) j := fun j => by rw [h41, mI_wN, zz, if_neg (by omega)]
  have e6 : mI s41 (x + 1429) 6 = ((e + 1 : Nat) : Int) := by rw [i41, mIwI1 (by omega), mI_wI, if_pos ⟨rfl, rfl⟩, w32_i (by omega) (by omega)]
  have e8 : mI s41 (x + 1429) 8 = ((pa + 1 : Nat) : Int) := by rw [i41, mI_wI, if_pos ⟨rfl, rfl⟩, w32_i (by omega) (by omega)]
  have ej : ∀ j, j ≠ 6 → j ≠ 8 → mI s41 (x + 1429) j = mI σ (x + 1429) j := fun j j1 j2 => by rw [i41, mIwI1 (by omega), mIwI1 (by omega)]; exact X.rI (fun y => by unfold Rq at y; omega)
  have z41 : mZ s41 = mZ σ + 1 := by rw [h41, mZ_wN, zz]
  have t41 : mT s41 (mZ σ) = 12 := by rw [h41, mT_wN, zz, if_pos rfl]
  rw [e6]
  have wd : w32 (((e + 1 : Nat) : Int) - 1) = (e : Int) := by rw [w32_i (by omega) (by omega)]; omega
  have wn : w32 ((e : Int) - ((q + 1 : Nat) : Int)) = ((e - (q + 1) : Nat) : Int) := by rw [w32_i (by omega) (by omega)]; omega
  have n24 : e - (q + 1) ≤ 25 := by omega
  rw [wd]
  -- the bytes
  have cfb := cfa.wN' (t := 102) (n := e - (q + 1)) (Or.inr trivial) (fun z => by cases z) (by omega)
  have crb := c.cf cfb
  have nl : mN (wN s41 102 (e - (q + 1))) (mZ s41) = e - (q + 1) := by rw [mN_wN, if_pos rfl]
  have eP : x6_part (x + 1429) ((q + 1 : Nat) : Int) e s41 = some (mZ s41, wCI (wN s41 102 (e - (q + 1))) (x + 1) (q + 1) (mZ s41) 0 (e - (q + 1))) := by
    unfold x6_part
    rw [wn, tn, tn, if_pos (by omega)]
    simp only [gLet]
    rw [if_pos crb.1.1, crb.1.2.2.2.1, if_pos crb.1.2.2.2.2.1, nl, w32_i (by omega) (by omega), crb.1.2.2.2.2.2.1, if_pos (by omega), tn]
    rfl
  refine Ev.e eP ?_
  have cfc := cfb.wCI' (nd := mZ s41) (a := x + 1) (sp := q + 1) (dp := 0) (n := e - (q + 1)) (by omega)
  have cfd := cfc.wR' (nd := mZ σ) (i := 0) (v := mZ s41) (Nat.le_refl _) (fun _ z => by cases z)
  obtain ⟨r, hr⟩ : ∃ r, r = wR (wCI (wN s41 102 (e - (q + 1))) (x + 1) (q + 1) (mZ s41) 0 (e - (q + 1))) (mZ σ) 0 (mZ s41) := ⟨_, rfl⟩
  have tr12 : mT (wCI (wN s41 102 (e - (q + 1))) (x + 1) (q + 1) (mZ s41) 0 (e - (q + 1))) (mZ σ) = 12 := by rw [mT_wCI, mT_wN, if_neg (by omega)]; exact t41
  have eI : x14_init (mZ σ) (mZ s41) (wCI (wN s41 102 (e - (q + 1))) (x + 1) (q + 1) (mZ s41) 0 (e - (q + 1))) = some r := by
    unfold x14_init
    rw [if_pos tr12, hr]; rfl
  rw [← hr] at cfd
  refine Ev.e eI (Ev.r ⟨mZ σ, r, rfl, cfd.mono (by omega), ?_, ?_, fun j j1 j2 => ?_, ?_, ?_⟩)
  · rw [hr, mI_wR, mI_wCI, if_neg (by omega), mI_wN, if_neg (by omega)]; exact e6
  · rw [hr, mI_wR, mI_wCI, if_neg (by omega), mI_wN, if_neg (by omega)]; exact e8
  · rw [hr, mI_wR, mI_wCI, if_neg (by omega), mI_wN, if_neg (by omega)]; exact ej j j1 j2
  · rw [hr, mT_wR]; exact tr12
  · refine Or.inr (Or.inl ⟨by rw [hr, mT_wR]; exact tr12, ?_, ?_, ?_⟩)
    · rw [hr, mR_wR, if_pos ⟨rfl, rfl⟩]; exact z41
    · rw [hr, mT_wR, mT_wCI, mT_wN, if_pos z41.symm]
    · have en : mN r (mZ σ + 1) = e - (q + 1) := by rw [hr, mN_wR, mN_wCI, ← z41]; exact nl
      rw [en]
      unfold qtx
      refine congrArg mkT (lst_congr (fun i hi => ?_))
      have tb := crb.1.2.2.2.2.2.2.1 (q + 1 + i) (by omega)
      rw [hr, mI_wR, mI_wCI, if_pos ⟨z41.symm, by omega, by omega⟩, show q + 1 + (i - 0) = q + 1 + i by omega, tb]
      have := of_decide_eq_true (g (q + 1 + i) (by omega) (by omega)).1
      unfold sby; rw [if_pos (by omega)]
theorem rd_quoted (hN : 500 ≤ N) (S : S2 x h hi all nv sh M lu0 bA f σ τ q q op pa pi) (h34 : bA q = 34) : E2 (x6_quoted N (x + 1429) σ) (tw_readPlain N h τ) (Out2 x h hi all nv sh M lu0 bA f σ τ q op pa pi) := by
  have S0 := S
  obtain ⟨c, t, ⟨s1, s2, s3, s4⟩, ⟨t1, t2, t3, t4, t5⟩, ⟨l1, l2, l3⟩, b1, b2, b3, b4, b5, b6, b7⟩ := S
  have tx := c.1.2.2.2.2.2.2.2
  have h4 : hi ≤ 400 := by have := tx.2.2.1; have := tx.2.2.2; omega
  have qh : q < hi := tx.lt (by omega)
  have kk : tkK bA q = 2 := by unfold tkK isD; rw [if_neg (by omega), if_neg (by rw [decide_eq_true_iff]; omega), if_pos h34]
  obtain ⟨k1, k2⟩ := t2.2.2.2.2.2.2.2.2.2 kk
  have e47 : mI τ h 47 = 2 := by rw [t2.1, kk]
  have e48 : mI τ h 48 = q := by rw [t2.2.1, if_neg (by omega)]
  have X0 : Ex (Rq x 6) σ (wI σ (x + 1429) 6 ((q + 1 : Nat) : Int)) := Ex.rf.I ⟨rfl, rfl⟩
  have g0 : mI (wI σ (x + 1429) 6 ((q + 1 : Nat) : Int)) (x + 1429) 6 = ((q + 1 : Nat) : Int) := by rw [mI_wI, if_pos ⟨rfl, rfl⟩, w32_i (by omega) (by omega)]
  unfold x6_quoted tw_readPlain
  rw [s1, inc32 (by omega), e47]
  refine E2.lg c.1.1 (E2.ll ?_)
  cases hq : qtS bA all q with
  | inl w =>
    have e51 := k1 w hq
    have w400 : ∀ m p w, p ≤ hi → q < p → qt bA all q m p = .inl w → w ≤ 430 := by
      intro m
      induction m with
      | zero => intro p w h1 h2 h3; unfold qt at h3; have := Sum.inl.inj h3; omega
      | succ m ih =>
        intro p w h1 h2 h3
        have l2 := tx.2.2.2
        unfold qt at h3
        split at h3
        · cases h3
        · split at h3
          · have := Sum.inl.inj h3; omega
          · next d2 =>
            split at h3
            · have := Sum.inl.inj h3; omega
            · split at h3
              · have : p < hi := tx.lt d2
                exact ih (p + 1) w (by omega) (by omega) h3
              · have := Sum.inl.inj h3; omega
    have wl := w400 30 (q + 1) w (by omega) (by omega) hq
    rw [e51]
    refine E2.rf (by omega) (E2.vv (P := fun r => r.1 = .inr "SheetBranches$Wrong" ∧ mI r.2 (x + 1429) 12 = 1 ∧ mI r.2 (x + 1429) 13 = w ∧ CF x σ r.2 1) (c_quo_l (q := q) c qh (fun e s he _ _ => by rw [hq] at he; cases he) (fun w' r hw z => by rw [hq] at hw; rw [Sum.inl.inj hw]; exact z) 30 (q + 1) N _ (by omega) (by omega) (by omega) (by omega) (by omega) rfl X0 g0) (Ev.c (t_fail (lu0 := lu0) (hi := hi) (b := M + pa) (k := 1) (w := (w : Int)) b5 t5 (by decide) (by omega)) (fun r _ z => Ev.r z)) (fun a r2 y z => OutN.fault y.1 y.2.1 y.2.2.1 (y.2.2.2.mono (by omega)) (by decide) z.1 z.2.1 z.2.2.1))
  | inr e =>
    obtain ⟨e51, e49⟩ := k2 e hq
    have qi := qt_in 30 (q + 1) e hq
    have qb := qt_b 30 (q + 1) (by omega) (by omega) e hq
    have eh : e < hi := tx.lt (by omega)
    rw [e51]
    refine E2.rg (by decide) (E2.rg (by decide) (E2.rc (tw_new (k := 2) hN S0 (by decide)) (fun x3 z => ?_)))
    obtain ⟨z1, z2, z3, z4, z5, z6, z7⟩ := z
    obtain ⟨p1, p2, p3, p4, p5, p6, p7, p8, p9, p10, p11, p12⟩ := z4
    obtain ⟨lu, hlu⟩ : ∃ lu : Nat, mI τ h 19 = lu := ⟨(mI τ h 19).toNat, by omega⟩
    have w49 : w32 (((e + 1 : Nat) : Int) - 1) = (e : Int) := by rw [w32_i (by omega) (by omega)]; omega
    rw [z5 48 (by decide), z5 49 (by decide), e48, e49, inc32 (by omega), w49, z1]
    refine E2.rc (t_kept (p := q + 1) (e := e) (lu := lu) hN z7.1 (by omega) (by omega) (fun k k1 k2 => (qi.2 k k1 k2).1) (by rw [z5 19 (by decide)]; exact hlu) (by omega)) (fun x9 y => ?_)
    obtain ⟨y1, y2, y3, y4, yB⟩ := y
    have nK : ∀ j, j ≠ 19 → mI x9.2 h j = mI x3.2 h j := fun j hj => y2.rI (fun v => by unfold KpP at v; omega)
    have m60 := t.2.2.2.2.2
    refine E2.rg (by omega) (E2.rl (E2.rg (by omega) (E2.rl ?_)))
    rw [tn, y1]
    have i49 : mI (wI x9.2 (h + 18) (M + pa) lu) h 49 = ((e + 1 : Nat) : Int) := by rw [mIwI1 (by omega), nK 49 (by decide), z5 49 (by decide)]; exact e49
    have i48 : mI (wI x9.2 (h + 18) (M + pa) lu) h 48 = q := by rw [mIwI1 (by omega), nK 48 (by decide), z5 48 (by decide)]; exact e48
    have wl : w32 (((e + 1 : Nat) : Int) - (q : Int) - 2) = ((e - (q + 1) : Nat) : Int) := by rw [w32_i (by omega) (by omega)]; omega
    rw [i49, i48, wl]
    have X2 : Ex (fun a j => (a = h + 18 ∨ a = h + 19) ∧ j = M + pa) x9.2 (wI (wI x9.2 (h + 18) (M + pa) lu) (h + 19) (M + pa) ((e - (q + 1) : Nat) : Int)) := (Ex.rf.I ⟨Or.inl rfl, rfl⟩).I ⟨Or.inr rfl, rfl⟩
    have a18 : mI (wI (wI x9.2 (h + 18) (M + pa) lu) (h + 19) (M + pa) ((e - (q + 1) : Nat) : Int)) (h + 18) (M + pa) = lu := by simp (disch := omega) only [mIwI1, mIwI2, w32_i]
    have a19 : mI (wI (wI x9.2 (h + 18) (M + pa) lu) (h + 19) (M + pa) ((e - (q + 1) : Nat) : Int)) (h + 19) (M + pa) = ((e - (q + 1) : Nat) : Int) := by simp (disch := omega) only [mIwI1, mIwI2, w32_i]
    generalize wI (wI x9.2 (h + 18) (M + pa) lu) (h + 19) (M + pa) ((e - (q + 1) : Nat) : Int) = τ2 at X2 a18 a19 ⊢
    have nX : ∀ j, j ≠ 56 → j ≠ 19 → mI τ2 h j = mI τ h j := fun j j1 j2 => by rw [X2.rI (by omega), nK j j2, z5 j j1]
    have i19 : mI τ2 h 19 = ((lu + (e - (q + 1)) : Nat) : Int) := by rw [X2.rI (by omega)]; exact y3
    have aP : ∀ o, 14 ≤ o → o ≤ 25 → o ≠ 18 → o ≠ 19 → mI τ2 (h + o) (M + pa) = mI x3.2 (h + o) (M + pa) := fun o o1 o2 o3 o4 => by rw [X2.rI (by omega), y2.rI (fun v => by unfold KpP at v; omega)]
    have a17 : mL τ2 (h + 17) (M + pa) = 0 := by rw [X2.rL (by omega), y2.rL (fun v => by unfold KpP at v; omega)]; exact p4
    have tf2 : TF (lu0 + hi) h τ τ2 (M + pa) := by
      refine ⟨((z6.1.tr (y2.mono (fun a j v => ?_))).tr (X2.mono (fun a j v => ?_))), b5, by omega, by omega, fun z => (yB (z6.2.2.2.2.1 z)).ex X2 (fun k v => by omega), fun z => ?_⟩
      · unfold KpP at v
        rcases v with v | v
        · exact Or.inl ⟨v.1, Or.inl v.2⟩
        · exact Or.inr (Or.inr ⟨v.1, by omega⟩)
      · rcases v with ⟨v | v, w⟩
        · exact Or.inr (Or.inl ⟨18, by omega, by omega, v, by omega⟩)
        · exact Or.inr (Or.inl ⟨19, by omega, by omega, v, by omega⟩)
      · exact ⟨by rw [← nX 41 (by decide) (by decide)]; exact z, nX 42 (by decide) (by decide)⟩
    have lt9 : ∀ i, i < e - (q + 1) → mI τ2 (h + 9) (lu + i) = bA (q + 1 + i) := fun i hi => by rw [X2.rI (by omega)]; exact y4 i hi
    have tl : (qtx bA q e).length = e - (q + 1) := lst_len _ _
    have L : LabT τ2 h (M + pa) (mkT (qtx bA q e)) := ⟨by omega, by rw [aP 14 (by decide) (by decide) (by decide) (by decide)]; exact p1, by rw [aP 15 (by decide) (by decide) (by decide) (by decide)]; exact p2, a17, ⟨lu, a18, by show lu + (qtx bA q e).length ≤ 82400; omega, fun i hi => by
        have hi' : i < e - (q + 1) := by rw [← tl]; exact hi
        rw [lt9 i hi']; exact (gl_lst (f := fun i => bA (q + 1 + i)) hi').symm⟩, by rw [a19]; show _ = (((qtx bA q e).length : Nat) : Int); rw [tl], by rw [aP 20 (by decide) (by decide) (by decide) (by decide)]; exact p7, by rw [aP 21 (by decide) (by decide) (by decide) (by decide)]; exact p8, by rw [aP 22 (by decide) (by decide) (by decide) (by decide)]; exact p9, by rw [aP 23 (by decide) (by decide) (by decide) (by decide)]; exact p10, Or.inl (by rw [aP 24 (by decide) (by decide) (by decide) (by decide)]; exact p11), by rw [aP 25 (by decide) (by decide) (by decide) (by decide)]; exact p12⟩
    have l24 : e - (q + 1) ≤ 24 := by
      have : ∀ m p, qt bA all q m p = .inr e → q < p → p ≤ q + 25 → e ≤ q + 25 := by
        intro m
        induction m with
        | zero => intro p hp _ _; unfold qt at hp; cases hp
        | succ m ih =>
          intro p hp h1 h2
          unfold qt at hp
          split at hp
          · have := Sum.inr.inj hp; omega
          · split at hp
            · cases hp
            · split at hp
              · cases hp
              · split at hp
                · exact ih (p + 1) hp (by omega) (by omega)
                · cases hp
      have := this 30 (q + 1) hq (by omega) (by omega)
      omega
    have po : PtOk (mkT (qtx bA q e)) := Or.inr (Or.inl ⟨_, rfl, by rw [tl]; exact l24, fun y hy => by
      obtain ⟨i, hi, rfl⟩ := mem_gl hy
      rw [tl] at hi
      have e1 : gl (qtx bA q e) i = bA (q + 1 + i) := gl_lst (f := fun i => bA (q + 1 + i)) hi
      rw [e1]
      have := qi.2 (q + 1 + i) (by omega) (by omega)
      have g := of_decide_eq_true this.1
      exact ⟨g.1, g.2, this.2⟩⟩)
    have R1 : RwT τ2 h (M + pa) nv [mkT (qtx bA q e)] := RwT.one L ⟨lu, a18, by rw [i19]; show ((lu + (qtx bA q e).length : Nat) : Int) ≤ _; omega⟩ po (by rw [aP 24 (by decide) (by decide) (by decide) (by decide)]; exact p11) (show 0 < 16 by decide) (show (-1 : Int) < nv by omega) (by rw [aP 16 (by decide) (by decide) (by decide) (by decide)]; exact p3) rfl (show 2 ≤ 6 by decide)
    have k2' : mI τ2 (h + 14) (M + pa) = 2 := by rw [aP 14 (by decide) (by decide) (by decide) (by decide)]; exact p1
    have m46 : mI τ2 h 46 = ((e + 1 : Nat) : Int) := by rw [nX 46 (by decide) (by decide), t2.2.2.1]; exact e49
    refine E2.vv (P := fun r => ∃ nd σ1, r = (.inl (some (vR nd)), σ1) ∧ CF x σ σ1 2 ∧ mI σ1 (x + 1429) 6 = ((e + 1 : Nat) : Int) ∧ mI σ1 (x + 1429) 8 = ((pa + 1 : Nat) : Int) ∧ (∀ j, j ≠ 6 → j ≠ 8 → mI σ1 (x + 1429) j = mI σ (x + 1429) j) ∧ mT σ1 nd = 12 ∧ LabC σ1 nd (mkT (qtx bA q e))) (Q := fun τ3 => ∀ y : Nat × gMem, (CF x σ y.2 2 ∧ mI y.2 (x + 1429) 6 = ((e + 1 : Nat) : Int) ∧ mI y.2 (x + 1429) 8 = ((pa + 1 : Nat) : Int) ∧ (∀ j, j ≠ 6 → j ≠ 8 → mI y.2 (x + 1429) j = mI σ (x + 1429) j) ∧ mT y.2 y.1 = 12 ∧ LabC y.2 y.1 (mkT (qtx bA q e))) → ∃ q1, OkN x h hi all nv sh M lu0 bA f σ τ q op pa pi False y.1 (e + 1) q1 (pa + 1) y.2 τ3) ?_ ?_ ?_
    · exact c_quo_l (q := q) c qh (fun e' s he X g => by
        rw [hq] at he
        have ee : e = e' := Sum.inr.inj he
        subst ee
        exact c_quo_n c s3 (by omega) (by omega) (by omega) eh qi.2 X g) (fun w r hw _ => by rw [hq] at hw; cases hw) 30 (q + 1) N _ (by omega) (by omega) (by omega) (by omega) (by omega) rfl X0 g0
    · refine Ev.c (Ψ := fun τ3 => ∀ y : Nat × gMem, (CF x σ y.2 2 ∧ mI y.2 (x + 1429) 6 = ((e + 1 : Nat) : Int) ∧ mI y.2 (x + 1429) 8 = ((pa + 1 : Nat) : Int) ∧ (∀ j, j ≠ 6 → j ≠ 8 → mI y.2 (x + 1429) j = mI σ (x + 1429) j) ∧ mT y.2 y.1 = 12 ∧ LabC y.2 y.1 (mkT (qtx bA q e))) → ∃ q1, OkN x h hi all nv sh M lu0 bA f σ τ q op pa pi False y.1 (e + 1) q1 (pa + 1) y.2 τ3) (ev_all ?_ ?_) (fun τ3 _ z => Ev.r z)
      · obtain ⟨r, e1, -⟩ := adv2 (lu0 := lu0) (b := 0) hN (t.tf tf2) (by omega) (p1 := e + 1) m46 (by omega)
        exact ⟨r, e1, trivial⟩
      · rintro ⟨nd, σ1⟩ ⟨y1, y2, y3, y4, y5, y6⟩
        exact leaf_fin hN S0 (by omega) (by omega) (CF.mono y1 (by omega)) y2 (y4 7 (by decide) (by decide)) y3 (y4 11 (by decide) (by decide)) tf2 m46 (by rw [X2.rI (by omega), nK 56 (by decide)]; exact z3) (nX 57 (by decide) (by decide)) (by rw [nX 41 (by decide) (by decide)]; exact t5) (by rw [i19]; omega) ⟨by rw [nX 58 (by decide) (by decide), y4 14 (by decide) (by decide)]; exact l1, by rw [nX 59 (by decide) (by decide), y4 14 (by decide) (by decide), y4 15 (by decide) (by decide)]; exact l2, by rw [y4 14 (by decide) (by decide)]; exact l3⟩ (fun w => by rw [← y4 14 (by decide) (by decide)]; exact w) (by rw [aP 16 (by decide) (by decide) (by decide) (by decide)]; exact p3) ⟨by rw [y5]; decide, by rw [y5, k2']; decide, by rw [y5, k2']; decide, by rw [y5, k2']; decide⟩ (fun w => by rw [k2'] at w; cases w) (fun _ => ⟨_, IsP.one y6 po rfl (show 2 ≤ 6 by decide), R1⟩)
    · rintro a b' ⟨nd, σ1, rfl, y⟩ Q
      obtain ⟨q1', o⟩ := Q (nd, σ1) y
      exact OutN.ok o
end Read13
