/-! ===== PHASE 2: the act diff: order, cells ===== -/
section State35
variable {N x h u nv pa un fs i j t k n q : Nat} {σ τ s r s' r' : gMem} {own rt : Nat → Nat} {S : Sh} {Gs : Nat → Sh} {g : Nat → Nat → Vl} {v w ax cd0 : Int}
theorem order_l (hN : 2000 ≤ N) (ha : ax = 0 ∨ ax = 1) (hi : rtV nv pa un i) (hj : rtV nv pa un j) (D : DfS x h t nv pa un fs Gs g own rt σ τ n s r) (hn : n < 410) : ∀ (m k fu fv : Nat) (last : Int), k + m = (axL (Gs i) ax).length → m < fu → m < fv → -1 ≤ last → E2 (x1_differInOrder_l13 N x (rt j) ax (axA s (rt i) ax) (fun y => some y) fu last (k : Int) s) (tw_sameOrder_l6 N h r (tsN fs i) (tsN fs j) (tsN fs j) ax (some 1) fv last (k : Int)) (fun a w => (w = 1 ∧ a = s) ∨ (w = 0 ∧ x1_differ x (w32 (5 + ax)) 0 0 s = some a)) := by
  obtain ⟨-, n1, n4, -, -, p4, u4⟩ := D.1.c5
  have L := axA_ls (ax := ax) (D.1.shC hi)
  have sj := D.1.shC hj
  have Lj := axA_ls (ax := ax) sj
  have lt := tsN_lt (fs := fs) hi n4 p4 u4
  have ltj := tsN_lt (fs := fs) hj n4 p4 u4
  have lei := D.1.2.1.len hi
  have lej := D.1.2.1.len hj
  have n32 := L.2.2.1
  have alm := axL_le (ax := ax) lei.1 lei.2
  intro m
  induction m with
  | zero =>
    intro k fu fv last h1 h2 h3 h4
    obtain ⟨fu, rfl⟩ : ∃ j, fu = j + 1 := ⟨fu - 1, by omega⟩
    obtain ⟨fv, rfl⟩ : ∃ j, fv = j + 1 := ⟨fv - 1, by omega⟩
    unfold x1_differInOrder_l13 tw_sameOrder_l6
    rw [L.2.1, w32_i (by omega) (by omega)]
    refine E2.lg L.1 (E2.lg (by omega) (E2.re ((D.1.shT hi).axn (by omega)) (E2.rg (by omega) (E2.r (Or.inl ⟨rfl, rfl⟩)))))
  | succ m ih =>
    intro k fu fv last h1 h2 h3 h4
    obtain ⟨fu, rfl⟩ : ∃ j, fu = j + 1 := ⟨fu - 1, by omega⟩
    obtain ⟨fv, rfl⟩ : ∃ j, fv = j + 1 := ⟨fv - 1, by omega⟩
    unfold x1_differInOrder_l13 tw_sameOrder_l6
    rw [L.2.1, w32_i (x := ((axL (Gs i) ax).length : Int)) (by omega) (by omega), tn, L.2.2.2 k (by omega)]
    refine E2.lg L.1 (E2.lf (by omega) (E2.lg sj.1.1 (E2.le (c_mk9 sj) (E2.lg (by omega) (E2.le (c_placeOf (by omega) Lj _) (E2.re ((D.1.shT hi).axn (by omega)) (E2.rf (by omega) (E2.re (t_lineAt (by omega) (by omega)) ?_))))))))
    rw [(D.1.shT hi).axl (by omega)]
    refine E2.re (t_axp (D.1.shT hj) ha (by omega) (by omega) lej.1 lej.2 _) ?_
    have pg := pl_ge (axL (Gs j) ax) (gl (axL (Gs i) ax) k)
    unfold x1_differInOrder_l13_j66
    rw [inc32 (by omega)]
    by_cases c1 : pl (axL (Gs j) ax) (gl (axL (Gs i) ax) k) ≠ -1
    · refine E2.lg c1 (E2.rg (by omega) (E2.re (t_axp (D.1.shT hj) ha (by omega) (by omega) lej.1 lej.2 _) ?_))
      unfold tw_sameOrder_l6_j54
      refine E2.rf (by omega) ?_
      by_cases c2 : last ≤ pl (axL (Gs j) ax) (gl (axL (Gs i) ax) k)
      · refine E2.lg c2 (E2.rg c2 ?_)
        unfold tw_sameOrder_l6_j70 tw_sameOrder_l6_j82
        rw [inc32 (by omega)]
        exact E2.rf (by omega) (ih (k + 1) fu fv _ (by omega) (by omega) (by omega) (by omega))
      · obtain ⟨s', r', e1, e2, D'⟩ := D.more hn (p0 := w32 (5 + ax)) (p1 := 0) (p2 := 0)
        exact E2.lf c2 (E2.rf c2 (E2.lg D.1.1.1.1.1 (E2.le e1 (E2.r (Or.inr ⟨rfl, e1⟩)))))
    · refine E2.lf c1 (E2.rf (by omega) ?_)
      unfold tw_sameOrder_l6_j54 tw_sameOrder_l6_j70 tw_sameOrder_l6_j82
      rw [inc32 (by omega)]
      exact E2.rg (by decide) (E2.rg (by decide) (ih (k + 1) fu fv _ (by omega) (by omega) (by omega) h4))
/-- the order of the lines, on both sides -/
theorem both_order {K' : gMem → Option (Int × gMem)} {f : gMem → Option gR} {Φ : gR → Int × gMem → Prop} (hN : 2000 ≤ N) (ha : ax = 0 ∨ ax = 1) (hi : rtV nv pa un i) (hj : rtV nv pa un j) (hn : n < 410) (D : DfS x h t nv pa un fs Gs g own rt σ τ n s r) (hK : ∀ a b n', n' ≤ n + 1 → DfS x h t nv pa un fs Gs g own rt σ τ n' a b → E2 (f a) (K' b) Φ) : E2 ((x1_differInOrder N x (rt i) (rt j) ax s).bind f) ((tw_sameOrder N h (tsN fs i) (tsN fs j) (tsN fs j) ax r).bind fun w => if w ≠ 0 then K' r else (tw_differ h (w32 (5 + ax)) 0 0 r).bind K') Φ := by
  have si := D.1.shC hi
  have O := order_l (ax := ax) hN ha hi hj D hn (axL (Gs i) ax).length 0 N N (-1) (by omega) (by have := (axA_ls (ax := ax) si).2.2.1; omega) (by have := (axA_ls (ax := ax) si).2.2.1; omega) (by decide)
  have O2 : E2 (x1_differInOrder N x (rt i) (rt j) ax s) (tw_sameOrder N h (tsN fs i) (tsN fs j) (tsN fs j) ax r) (fun a w => (w = 1 ∧ a = s) ∨ (w = 0 ∧ x1_differ x (w32 (5 + ax)) 0 0 s = some a)) := by
    unfold x1_differInOrder tw_sameOrder
    refine E2.lg si.1.1 (E2.le (c_mk9 si) ?_)
    exact O
  refine E2.cc O2 (fun a w z => ?_)
  rcases z with ⟨z1, z2⟩ | ⟨z1, z2⟩
  · subst z1 z2
    exact E2.rg (by decide) (hK _ _ n (by omega) D)
  · subst z1
    obtain ⟨s', r', e1, e2, D'⟩ := D.more hn (p0 := w32 (5 + ax)) (p1 := 0) (p2 := 0)
    rw [e1] at z2
    obtain rfl := Option.some.inj z2
    exact E2.rf (fun z => z rfl) (E2.re e2 (hK _ _ (n + 1) (by omega) D'))
/-- a cell that the walk on cells passes by -/
def DSk (Si Sj : Sh) (e : Nat) : Prop := Sj.1.1.length ≤ e / 10 ∨ Sj.1.2.length ≤ e % 10 ∨ pl Si.1.1 (gl Sj.1.1 (e / 10)) < 0 ∨ pl Si.1.2 (gl Sj.1.2 (e % 10)) < 0
theorem td10 {e : Nat} (he : e < 320) : w32 (Int.tdiv (e : Int) 10) = ((e / 10 : Nat) : Int) := by rw [show (10 : Int) = ((10 : Nat) : Int) from rfl, ← Int.ofNat_tdiv, w32_i (by omega) (by omega)]
theorem tm10 {e : Nat} : w32 (Int.tmod (e : Int) 10) = ((e % 10 : Nat) : Int) := by rw [show (10 : Int) = ((10 : Nat) : Int) from rfl, ← Int.ofNat_tmod, w32_i (by omega) (by omega)]
theorem diff_skip {K' : gMem → Option (Int × gMem)} {fv e : Nat} (hN : 2000 ≤ N) (R : Rl x h t nv pa un fs Gs g own rt s r) (hi : rtV nv pa un i) (hj : rtV nv pa un j) (he : e < 320) (sk : DSk (Gs i) (Gs j) e) : tw_diff_l130 N h (tsN fs i) (tsN fs j) K' (fv + 1) (e : Int) r = tw_diff_l130 N h (tsN fs i) (tsN fs j) K' fv ((e + 1 : Nat) : Int) r := by
  obtain ⟨-, n1, n4, -, -, p4, u4⟩ := R.c5
  have lt := tsN_lt (fs := fs) hi n4 p4 u4
  have ltj := tsN_lt (fs := fs) hj n4 p4 u4
  have lei := R.2.1.len hi
  have lej := R.2.1.len hj
  have si := R.shT hi
  have sj := R.shT hj
  have a32 : axM 0 = 32 := rfl
  have a10 : axM 1 = 10 := rfl
  have lnj := sj.ln
  rw [tw_diff_l130]
  unfold tw_diff_l130_j243
  rw [td10 he, tm10, inc32 (by omega), tn, if_neg (by omega), if_pos (by omega), sj.1]
  by_cases c1 : (Gs j).1.1.length ≤ e / 10
  · rw [if_pos (by omega)]
  rw [if_neg (by omega), if_pos (by omega), sj.2.1]
  by_cases c2 : (Gs j).1.2.length ≤ e % 10
  · rw [if_pos (by omega)]
  rw [if_neg (by omega), t_lineAt (ax := 0) (by omega) (by omega), Option.bind_some, t_lineAt (ax := 1) (by omega) (by omega), Option.bind_some, lnj.1.2 _ (by omega), lnj.2.2 _ (by omega)]
  unfold tw_contentOf
  rw [(si.pl (by omega) (by omega) lei.1 lei.2 _).1, Option.bind_some, (si.pl (by omega) (by omega) lei.1 lei.2 _).2, Option.bind_some]
  unfold DSk at sk
  by_cases c3 : pl (Gs i).1.1 (gl (Gs j).1.1 (e / 10)) < 0
  · rw [if_pos c3, Option.bind_some, if_pos (by decide)]
  · rw [if_neg c3, if_neg (by omega), Option.bind_some, if_pos (by decide)]
theorem diff_skips {K' : gMem → Option (Int × gMem)} (hN : 2000 ≤ N) (R : Rl x h t nv pa un fs Gs g own rt s r) (hi : rtV nv pa un i) (hj : rtV nv pa un j) : ∀ (m e fv : Nat), e + m ≤ 320 → m ≤ fv → (∀ e', e ≤ e' → e' < e + m → DSk (Gs i) (Gs j) e') → tw_diff_l130 N h (tsN fs i) (tsN fs j) K' fv (e : Int) r = tw_diff_l130 N h (tsN fs i) (tsN fs j) K' (fv - m) ((e + m : Nat) : Int) r := by
  intro m
  induction m with
  | zero => intro e fv h1 h2 h3; rfl
  | succ m ih =>
    intro e fv h1 h2 h3
    obtain ⟨fv, rfl⟩ : ∃ j, fv = j + 1 := ⟨fv - 1, by omega⟩
    rw [diff_skip hN R hi hj (by omega) (h3 e (by omega) (by omega)), ih (e + 1) fv (by omega) (by omega) (fun e' h4 h5 => h3 e' (by omega) (by omega)), show fv + 1 - (m + 1) = fv - m by omega, show e + (m + 1) = e + 1 + m by omega]
/-- the cells of one line -/
theorem cells_in {K : gMem → Option gR} {K' : gMem → Option (Int × gMem)} {Φ : gR → Int × gMem → Prop} (hN : 2000 ≤ N) (hi : rtV nv pa un i) (hj : rtV nv pa un j) {B : Nat} (hB : B + 320 ≤ 410) (hq : q < (Gs j).1.1.length) (pr : 0 ≤ pl (Gs i).1.1 (gl (Gs j).1.1 q)) (hK : ∀ s r n fv, n ≤ B + 10 * (q + 1) → 320 - 10 * (q + 1) < fv → DfS x h t nv pa un fs Gs g own rt σ τ n s r → E2 (K s) (tw_diff_l130 N h (tsN fs i) (tsN fs j) K' fv ((10 * (q + 1) : Nat) : Int) r) Φ) : ∀ (m c fu fv n : Nat) (s r : gMem), c + m = (Gs j).1.2.length → m < fu → 320 - (10 * q + c) < fv → n ≤ B + (10 * q + c) → DfS x h t nv pa un fs Gs g own rt σ τ n s r → E2 (x1_diff_l118 N x (rt i) (rt j) q (pl (Gs i).1.1 (gl (Gs j).1.1 q)) K fu (c : Int) s) (tw_diff_l130 N h (tsN fs i) (tsN fs j) K' fv ((10 * q + c : Nat) : Int) r) Φ := by
  intro m
  induction m with
  | zero =>
    intro c fu fv n s r h1 h2 h3 h4 D
    obtain ⟨fu, rfl⟩ : ∃ j, fu = j + 1 := ⟨fu - 1, by omega⟩
    have lej := D.1.2.1.len hj
    have cj := D.1.shC hj
    have M1 := cj.1.2.2.1
    unfold x1_diff_l118
    rw [M1.2.1, w32_i (by omega) (by omega)]
    refine E2.lf (by omega) (E2.lg cj.1.1 (E2.lg M1.1 (E2.lg (by omega) ?_)))
    rw [diff_skips hN D.1 hi hj (10 - c) (10 * q + c) fv (by omega) (by omega) (fun e' h4 h5 => Or.inr (Or.inl (by omega))), show 10 * q + c + (10 - c) = 10 * (q + 1) by omega]
    exact hK s r n _ (by omega) (by omega) D
  | succ m ih =>
    intro c fu fv n s r h1 h2 h3 h4 D
    obtain ⟨fu, rfl⟩ : ∃ j, fu = j + 1 := ⟨fu - 1, by omega⟩
    obtain ⟨fv, rfl⟩ : ∃ j, fv = j + 1 := ⟨fv - 1, by omega⟩
    obtain ⟨-, n1, n4, -, -, p4, u4⟩ := D.1.c5
    have l := D.1.1.1
    have lt := tsN_lt (fs := fs) hi n4 p4 u4
    have ltj := tsN_lt (fs := fs) hj n4 p4 u4
    have lei := D.1.2.1.len hi
    have lej := D.1.2.1.len hj
    have ti := D.1.shT hi
    have tj := D.1.shT hj
    have ci := D.1.shC hi
    have cj := D.1.shC hj
    have M1 := cj.1.2.2.1
    have lnj := tj.ln
    have a32 : axM 0 = 32 := rfl
    have a10 : axM 1 = 10 := rfl
    have pg := pl_ge (Gs i).1.2 (gl (Gs j).1.2 c)
    have pg1 := pl_ge (Gs i).1.1 (gl (Gs j).1.1 q)
    have d1 : (10 * q + c) / 10 = q := by omega
    have d2 : (10 * q + c) % 10 = c := by omega
    have NX : ∀ n' s' r', n' ≤ B + (10 * q + (c + 1)) → DfS x h t nv pa un fs Gs g own rt σ τ n' s' r' → E2 (x1_diff_l118_j196 N x (rt i) (rt j) q (pl (Gs i).1.1 (gl (Gs j).1.1 q)) c (x1_diff_l118 N x (rt i) (rt j) q (pl (Gs i).1.1 (gl (Gs j).1.1 q)) K fu) K s') (tw_diff_l130 N h (tsN fs i) (tsN fs j) K' fv ((10 * q + (c + 1) : Nat) : Int) r') Φ := by
      intro n' s' r' hn' D'
      unfold x1_diff_l118_j196
      rw [inc32 (by omega)]
      exact ih (c + 1) fu fv n' s' r' (by omega) (by omega) (by omega) hn' D'
    unfold x1_diff_l118
    rw [M1.2.1, w32_i (x := ((Gs j).1.2.length : Int)) (by omega) (by omega), tn, M1.2.2.2 c (by omega), tn]
    refine E2.lf (by omega) (E2.lg cj.1.1 (E2.lg M1.1 (E2.lf (by omega) (E2.lg (by omega) (E2.lg ci.1.1 (E2.le (c_column (by omega) ci.1 _) ?_))))))
    by_cases c1 : pl (Gs i).1.2 (gl (Gs j).1.2 c) = -1
    · rw [diff_skip hN D.1 hi hj (by omega) (Or.inr (Or.inr (Or.inr (by rw [d2]; omega)))), show 10 * q + c + 1 = 10 * q + (c + 1) by omega]
      exact E2.lg c1 (NX n s r (by omega) D)
    · obtain ⟨p1, e1⟩ : ∃ p1 : Nat, pl (Gs i).1.1 (gl (Gs j).1.1 q) = (p1 : Int) := ⟨_, (Int.toNat_of_nonneg pr).symm⟩
      obtain ⟨p2, e2⟩ : ∃ p2 : Nat, pl (Gs i).1.2 (gl (Gs j).1.2 c) = (p2 : Int) := ⟨(pl (Gs i).1.2 (gl (Gs j).1.2 c)).toNat, by omega⟩
      have ri := ci.2.2.2 p1 (by omega)
      have rj := cj.2.2.2 q (by omega)
      have cti := ri.2.2 p2 (by omega)
      have ctj := rj.2.2 c (by omega)
      have kti := ti.2.2.2.2 (10 * p1 + p2) ⟨by omega, by omega⟩
      have ktj := tj.2.2.2.2 (10 * q + c) ⟨by omega, by omega⟩
      have m60 := D.1.2.1.2.2.2.1.2.1
      obtain ⟨v, ev, hv⟩ := c_alikeC (N := N) (by omega) l.kc l.z0 cti ctj
      obtain ⟨v', ev', hv'⟩ := t_alike (N := N) (by omega) m60 kti ktj
      have evv := hv.uniq hv'
      subst evv
      refine E2.lf c1 ?_
      rw [e1] at NX ⊢
      rw [e2, tn, tn]
      refine E2.lg ci.2.1 (E2.lg (by rw [ci.2.2.1]; omega) (E2.lg ri.1 (E2.lg (by rw [ri.2.1]; omega) (E2.lg cj.2.1 (E2.lg (by rw [cj.2.2.1]; omega) (E2.lg rj.1 (E2.lg (by rw [rj.2.1]; omega) (E2.le ev ?_))))))))
      rw [tw_diff_l130]
      unfold tw_diff_l130_j243
      rw [td10 (by omega), tm10, show w32 (((10 * q + c : Nat) : Int) + 1) = ((10 * q + (c + 1) : Nat) : Int) from inc32 (by omega), tn, tj.1, tj.2.1, d1, d2]
      refine E2.rf (by omega) (E2.rg (by omega) (E2.rf (by omega) (E2.rg (by omega) (E2.rf (by omega) (E2.re (t_lineAt (ax := 0) (by omega) (by omega)) (E2.re (t_lineAt (ax := 1) (by omega) (by omega)) ?_))))))
      rw [lnj.1.2 _ (by omega), lnj.2.2 _ (by omega)]
      have eC : tw_contentOf N h ((tsN fs i : Nat) : Int) (gl (Gs j).1.1 q) (gl (Gs j).1.2 c) r = some (mI r (h + 5) (320 * tsN fs i + (10 * p1 + p2))) := by
        unfold tw_contentOf
        rw [(ti.pl (by omega) (by omega) lei.1 lei.2 _).1, Option.bind_some, (ti.pl (by omega) (by omega) lei.1 lei.2 _).2, Option.bind_some, e1, e2, if_neg (by omega), if_pos (by omega), if_pos (by omega), show (320 * ((tsN fs i : Nat) : Int) + 10 * (p1 : Int) + (p2 : Int)).toNat = 320 * tsN fs i + (10 * p1 + p2) by omega]
      refine E2.re eC ?_
      rw [show (320 * ((tsN fs j : Nat) : Int) + ((10 * q + c : Nat) : Int)).toNat = 320 * tsN fs j + (10 * q + c) by omega]
      refine E2.rf (by have := kti.rng; omega) (E2.rg (by omega) (E2.re ev' ?_))
      by_cases z : v ≠ 0
      · exact E2.lg z (E2.rg z (NX n s r (by omega) D))
      · obtain ⟨s', r', e3, e4, D'⟩ := D.more (by omega) (p0 := 7) (p1 := w32 ((q : Int) + 1)) (p2 := w32 ((c : Int) + 1))
        exact E2.lf z (E2.rf z (E2.lg l.1.1 (E2.le e3 (E2.re e4 (NX (n + 1) s' r' (by omega) D')))))
/-- all cells -/
theorem cells_out {K : gMem → Option gR} {K' : gMem → Option (Int × gMem)} {Φ : gR → Int × gMem → Prop} (hN : 2000 ≤ N) (hi : rtV nv pa un i) (hj : rtV nv pa un j) {B : Nat} (hB : B + 320 ≤ 410) (hK : ∀ s r n, n ≤ B + 320 → DfS x h t nv pa un fs Gs g own rt σ τ n s r → E2 (K s) (K' r) Φ) : ∀ (m q fu fv n : Nat) (s r : gMem), q + m = (Gs j).1.1.length → m < fu → 320 - 10 * q < fv → n ≤ B + 10 * q → DfS x h t nv pa un fs Gs g own rt σ τ n s r → E2 (x1_diff_l90 N x (rt i) (rt j) K fu (q : Int) s) (tw_diff_l130 N h (tsN fs i) (tsN fs j) K' fv ((10 * q : Nat) : Int) r) Φ := by
  intro m
  induction m with
  | zero =>
    intro q fu fv n s r h1 h2 h3 h4 D
    obtain ⟨fu, rfl⟩ : ∃ j, fu = j + 1 := ⟨fu - 1, by omega⟩
    have lej := D.1.2.1.len hj
    have cj := D.1.shC hj
    have M0 := cj.1.2.1
    unfold x1_diff_l90
    rw [M0.2.1, w32_i (by omega) (by omega)]
    refine E2.lg cj.1.1 (E2.lg M0.1 (E2.lg (by omega) ?_))
    rw [diff_skips hN D.1 hi hj (320 - 10 * q) (10 * q) fv (by omega) (by omega) (fun e' h4 h5 => Or.inl (by omega)), show 10 * q + (320 - 10 * q) = 320 by omega]
    obtain ⟨fv', e⟩ : ∃ j, fv - (320 - 10 * q) = j + 1 := ⟨fv - (320 - 10 * q) - 1, by omega⟩
    rw [e, tw_diff_l130]
    exact E2.rg (by omega) (hK s r n (by omega) D)
  | succ m ih =>
    intro q fu fv n s r h1 h2 h3 h4 D
    obtain ⟨fu, rfl⟩ : ∃ j, fu = j + 1 := ⟨fu - 1, by omega⟩
    have lej := D.1.2.1.len hj
    have ci := D.1.shC hi
    have cj := D.1.shC hj
    have M0 := cj.1.2.1
    have NX : ∀ n' s' r' fv', n' ≤ B + 10 * (q + 1) → 320 - 10 * (q + 1) < fv' → DfS x h t nv pa un fs Gs g own rt σ τ n' s' r' → E2 (x1_diff_l90_j202 N x (rt i) (rt j) q (x1_diff_l90 N x (rt i) (rt j) K fu) K s') (tw_diff_l130 N h (tsN fs i) (tsN fs j) K' fv' ((10 * (q + 1) : Nat) : Int) r') Φ := by
      intro n' s' r' fv' hn' hf D'
      unfold x1_diff_l90_j202
      rw [inc32 (by omega)]
      exact ih (q + 1) fu fv' n' s' r' (by omega) (by omega) hf hn' D'
    unfold x1_diff_l90
    rw [M0.2.1, w32_i (x := ((Gs j).1.1.length : Int)) (by omega) (by omega), tn, M0.2.2.2 q (by omega)]
    refine E2.lg cj.1.1 (E2.lg M0.1 (E2.lf (by omega) (E2.lg (by omega) (E2.lg ci.1.1 (E2.le (c_row (by omega) ci.1 _) ?_)))))
    have pg1 := pl_ge (Gs i).1.1 (gl (Gs j).1.1 q)
    by_cases c1 : pl (Gs i).1.1 (gl (Gs j).1.1 q) = -1
    · obtain ⟨fu', e⟩ : ∃ j, N = j + 1 := ⟨N - 1, by omega⟩
      rw [diff_skips hN D.1 hi hj 10 (10 * q) fv (by omega) (by omega) (fun e' h4 h5 => Or.inr (Or.inr (Or.inl (by rw [show e' / 10 = q by omega]; omega)))), show 10 * q + 10 = 10 * (q + 1) by omega]
      have NX' := NX n s r (fv - 10) (by omega) (by omega) D
      rw [x1_diff_l118.eq_def]
      rw [e] at NX' ⊢
      exact E2.lg c1 NX'
    · exact cells_in (σ := σ) (τ := τ) hN hi hj hB (by omega) (by omega) (fun s r n fv h1 h2 D => NX n s r fv h1 h2 D) (Gs j).1.2.length 0 N fv n s r (by omega) (by omega) (by omega) (by omega) D
end State35
