/-! ===== PHASE 2: two sheets come together: their lines ===== -/
section State71
variable {N x h u nv pa un fs i t k n p wv B T S1 S2 arr sz : Nat} {σ τ s r s0 r0 s' r' : gMem} {own rt : Nat → Nat} {S : Sh} {Gs : Nat → Sh} {g : Nat → Nat → Vl} {v w m ax : Int} {f f0 : Nat → Int} {l1 l2 : List Int}
/-- a mark comes in at a place -/
def insF (f : Nat → Int) (p : Nat) (m : Int) (k : Nat) : Int := if k < p then f k else if k = p then m else f (k - 1)
def PtX (h a k : Nat) : Prop := (a = h ∧ k = 100) ∨ a = h + 53
theorem t_put_l {v1 v2 : Int} (hp : v1 = (p : Int)) : ∀ (d fu : Nat) (s : gMem), p + d < 64 → d < fu → Ex (PtX h) r0 s → mI s h 100 = mI r0 h 100 → (∀ k, mI s (h + 53) k = if p + d < k ∧ k ≤ n then mI r0 (h + 53) (k - 1) else mI r0 (h + 53) k) → p + d ≤ n → ∃ s', (∀ K, tw_putLine_l5 N h v1 v2 K fu ((p + d : Nat) : Int) s = K s') ∧ Ex (PtX h) r0 s' ∧ mI s' h 100 = mI r0 h 100 ∧ ∀ k, mI s' (h + 53) k = if p < k ∧ k ≤ n then mI r0 (h + 53) (k - 1) else mI r0 (h + 53) k := by
  intro d
  induction d with
  | zero =>
    intro fu s h1 h2 X j100 hv hn
    obtain ⟨fu, rfl⟩ : ∃ j, fu = j + 1 := ⟨fu - 1, by omega⟩
    refine ⟨s, fun K => ?_, X, j100, fun k => by rw [hv k, Nat.add_zero]⟩
    unfold tw_putLine_l5
    rw [hp, if_pos (by omega)]
  | succ d ih =>
    intro fu s h1 h2 X j100 hv hn
    obtain ⟨fu, rfl⟩ : ∃ j, fu = j + 1 := ⟨fu - 1, by omega⟩
    have e1 : mI s (h + 53) (p + d) = mI r0 (h + 53) (p + d) := by rw [hv, if_neg (by omega)]
    have g1 := mI_rng r0 (h + 53) (p + d)
    unfold g32 at g1
    obtain ⟨s', q1, q2, q3, q4⟩ := ih fu (wI s (h + 53) (p + (d + 1)) (mI r0 (h + 53) (p + d))) (by omega) (by omega) (X.I (Or.inr rfl)) (by rw [mIwI1 (by omega)]; exact j100) (fun k => by
      by_cases c : k = p + (d + 1)
      · rw [c, mIwI2 ⟨rfl, rfl⟩, if_pos (by omega), w32_i (by omega) (by omega)]
        rw [show p + (d + 1) - 1 = p + d by omega]
      · rw [mIwI1 (by omega), hv k]
        by_cases c2 : p + (d + 1) < k ∧ k ≤ n
        · rw [if_pos c2, if_pos (by omega)]
        · rw [if_neg c2, if_neg (by omega)]) (by omega)
    refine ⟨s', fun K => ?_, q2, q3, q4⟩
    rw [← q1 K]
    conv => lhs; unfold tw_putLine_l5
    rw [hp, if_neg (by omega), if_pos (by omega), if_pos (by omega), show (((p + (d + 1) : Nat) : Int) - 1).toNat = p + d by omega, tn, e1, show w32 (((p + (d + 1) : Nat) : Int) + -1) = ((p + d : Nat) : Int) by rw [w32_i (by omega) (by omega)]; omega]
    rfl
theorem t_putLine (hN : 100 ≤ N) (i100 : mI r0 h 100 = (n : Int)) (hp : p ≤ n) (n64 : n < 64) (hm : g32 m) : ∃ r', tw_putLine N h (p : Int) m r0 = some r' ∧ Ex (PtX h) r0 r' ∧ mI r' h 100 = ((n + 1 : Nat) : Int) ∧ ∀ k, k ≤ n → mI r' (h + 53) k = insF (fun k => mI r0 (h + 53) k) p m k := by
  obtain ⟨s', q1, q2, q3, q4⟩ := t_put_l (N := N) (h := h) (r0 := r0) (p := p) (n := n) (v1 := (p : Int)) (v2 := m) rfl (n - p) N r0 (by omega) (by omega) Ex.rf rfl (fun k => by rw [if_neg (by omega)]) (by omega)
  rw [show p + (n - p) = n by omega] at q1
  unfold g32 at hm
  refine ⟨wI (wI s' (h + 53) p m) h 100 ((n + 1 : Nat) : Int), ?_, (q2.I (Or.inr rfl)).I (Or.inl ⟨rfl, rfl⟩), by rw [mIwI2 ⟨rfl, rfl⟩, w32_i (by omega) (by omega)], fun k hk => ?_⟩
  · unfold tw_putLine
    rw [i100, q1, if_pos (by omega), tn]
    show some (wI (wI s' (h + 53) p m) h 100 (w32 (mI (wI s' (h + 53) p m) h 100 + 1))) = _
    rw [mIwI1 (show ¬ (h = h + 53 ∧ 100 = p) by omega), q3, i100, inc32 (by omega)]
  · rw [mIwI1 (by omega)]
    unfold insF
    by_cases c : k = p
    · rw [mIwI2 ⟨rfl, c⟩, if_neg (by omega), if_pos c, w32_i (by omega) (by omega)]
    · rw [mIwI1 (fun z => c z.2), q4]
      by_cases c2 : k < p
      · rw [if_neg (by omega), if_pos c2]
      · rw [if_pos (by omega), if_neg c2, if_neg c]
/-- the same in the class's array -/
theorem c_shiftM {v0 v2 v5 : Nat} {v1 v7 v8 : Int} {K : gMem → Option (Nat × gMem)} (ta : mT s0 arr = 100) (na : mN s0 arr = sz) (hn : n < sz) (s64 : sz ≤ 64) : ∀ (d fu : Nat) (s : gMem), d < fu → Ex (fun a _ => a = arr) s0 s → (∀ k, mI s arr k = if p + d < k ∧ k ≤ n then mI s0 arr (k - 1) else mI s0 arr k) → p + d ≤ n → ∃ s', x25_marks_l171 N v0 v1 v2 v5 arr v7 v8 (p : Int) K fu ((p + d : Nat) : Int) s = K s' ∧ Ex (fun a _ => a = arr) s0 s' ∧ ∀ k, mI s' arr k = if p < k ∧ k ≤ n then mI s0 arr (k - 1) else mI s0 arr k := by
  intro d
  induction d with
  | zero =>
    intro fu s h2 X hv hd
    obtain ⟨fu, rfl⟩ : ∃ j, fu = j + 1 := ⟨fu - 1, by omega⟩
    refine ⟨s, ?_, X, fun k => by rw [hv k, Nat.add_zero]⟩
    unfold x25_marks_l171
    rw [if_pos (by omega)]
  | succ d ih =>
    intro fu s h2 X hv hd
    obtain ⟨fu, rfl⟩ : ∃ j, fu = j + 1 := ⟨fu - 1, by omega⟩
    have e1 : mI s arr (p + d) = mI s0 arr (p + d) := by rw [hv, if_neg (by omega)]
    have g1 := mI_rng s0 arr (p + d)
    unfold g32 at g1
    obtain ⟨s', q1, q2, q4⟩ := ih fu (wI s arr (p + (d + 1)) (mI s0 arr (p + d))) (by omega) (X.I rfl) (fun k => by
      by_cases c : k = p + (d + 1)
      · rw [c, mIwI2 ⟨rfl, rfl⟩, if_pos (by omega), w32_i (by omega) (by omega)]
        rw [show p + (d + 1) - 1 = p + d by omega]
      · rw [mIwI1 (by omega), hv k]
        by_cases c2 : p + (d + 1) < k ∧ k ≤ n
        · rw [if_pos c2, if_pos (by omega)]
        · rw [if_neg c2, if_neg (by omega)]) (by omega)
    refine ⟨s', ?_, q2, q4⟩
    rw [← q1]
    conv => lhs; unfold x25_marks_l171
    rw [if_neg (by omega), X.rT, X.rN, na, if_pos ta, if_pos (by omega), if_pos (by omega), show (((p + (d + 1) : Nat) : Int) - 1).toNat = p + d by omega, tn, e1, show w32 (((p + (d + 1) : Nat) : Int) + -1) = ((p + d : Nat) : Int) by rw [w32_i (by omega) (by omega)]; omega]
    rfl
/-- behind which line it comes -/
def lsF (f : Nat → Int) (n : Nat) (l : List Int) : Nat → Int
  | 0 => -1
  | k + 1 => if plG f (gl l k) n 0 < 0 then lsF f n l k else (k : Int)
def bhF (f : Nat → Int) (n : Nat) (l : List Int) : Nat → Nat
  | 0 => 0
  | k + 1 => if plG f (gl l k) n 0 < 0 then bhF f n l k else (plG f (gl l k) n 0).toNat + 1
theorem plG_b (f : Nat → Int) (x : Int) (n : Nat) : -1 ≤ plG f x n 0 ∧ plG f x n 0 < n := by
  rcases plG_spec (f := f) (x := x) n 0 with ⟨e, -⟩ | ⟨q, q1, q2, q3, -⟩ <;> omega
theorem bhF_le {l : List Int} : ∀ k, bhF f n l k ≤ n := by
  intro k
  induction k with
  | zero => exact Nat.zero_le _
  | succ k ih =>
    have b := plG_b f (gl l k) n
    show (if plG f (gl l k) n 0 < 0 then bhF f n l k else (plG f (gl l k) n 0).toNat + 1) ≤ n
    split
    · exact ih
    · omega
theorem lsF_bh {l : List Int} : ∀ k, (lsF f n l k < 0 → bhF f n l k = 0) ∧ (0 ≤ lsF f n l k → lsF f n l k < k ∧ 0 ≤ plG f (gl l (lsF f n l k).toNat) n 0 ∧ bhF f n l k = (plG f (gl l (lsF f n l k).toNat) n 0).toNat + 1) := by
  intro k
  induction k with
  | zero => exact ⟨fun _ => rfl, fun z => absurd z (by show ¬ (0 : Int) ≤ -1; decide)⟩
  | succ k ih =>
    unfold lsF bhF
    by_cases c : plG f (gl l k) n 0 < 0
    · rw [if_pos c, if_pos c]
      exact ⟨ih.1, fun z => by have := ih.2 z; omega⟩
    · rw [if_neg c, if_neg c, tn]
      exact ⟨fun z => by omega, fun z => by omega⟩
theorem c_beh_in {A2 : Nat} {kk : Nat} {K : Option Int} (ta : mT s arr = 100) (na : mN s arr = sz) (hn : n ≤ sz) (s64 : sz ≤ 64) (L2 : LsC s A2 l2) (hk : kk < l2.length) (hf : ∀ k, k < n → mI s arr k = f k) : ∀ (c i fu : Nat), i + c = n → c < fu → x25_behind_l13 N s arr (n : Int) A2 (kk : Int) K fu (i : Int) = if plG f (gl l2 kk) c i < 0 then K else some (plG f (gl l2 kk) c i + 1) := by
  intro c
  induction c with
  | zero =>
    intro i fu h1 h2
    obtain ⟨fu, rfl⟩ : ∃ j, fu = j + 1 := ⟨fu - 1, by omega⟩
    unfold x25_behind_l13
    rw [if_pos (by omega), if_pos (show plG f (gl l2 kk) 0 i < 0 by show (-1 : Int) < 0; decide)]
  | succ c ih =>
    intro i fu h1 h2
    obtain ⟨fu, rfl⟩ : ∃ j, fu = j + 1 := ⟨fu - 1, by omega⟩
    unfold x25_behind_l13 plG
    rw [if_neg (by omega), if_pos ta, if_pos (by omega), if_pos L2.1, L2.2.1, if_pos (by omega), tn, tn, hf i (by omega), L2.2.2.2 kk hk, inc32 (by omega)]
    by_cases e : f i = gl l2 kk
    · rw [if_neg (fun z => z e), if_pos e, if_neg (by omega)]
      exact congrArg some (by omega)
    · rw [if_pos e, if_neg e]; exact ih (i + 1) fu (by omega) (by omega)
theorem c_behind {A2 : Nat} (hN : 100 ≤ N) (ta : mT s arr = 100) (na : mN s arr = sz) (hn : n ≤ sz) (s64 : sz ≤ 64) (L2 : LsC s A2 l2) (hf : ∀ k, k < n → mI s arr k = f k) : ∀ (kk fu : Nat), kk ≤ l2.length → kk < fu → x25_behind_l5 N s arr (n : Int) A2 (some 0) fu ((kk : Int) - 1) = some ((bhF f n l2 kk : Nat) : Int) := by
  have n32 := L2.2.2.1
  intro kk
  induction kk with
  | zero =>
    intro fu h1 h2
    obtain ⟨fu, rfl⟩ : ∃ j, fu = j + 1 := ⟨fu - 1, by omega⟩
    unfold x25_behind_l5
    rw [if_pos (by omega)]; rfl
  | succ kk ih =>
    intro fu h1 h2
    obtain ⟨fu, rfl⟩ : ∃ j, fu = j + 1 := ⟨fu - 1, by omega⟩
    have b := plG_b f (gl l2 kk) n
    unfold x25_behind_l5 bhF
    rw [if_neg (by omega), show ((kk + 1 : Nat) : Int) - 1 = (kk : Int) by omega, show w32 ((kk : Int) + -1) = (kk : Int) - 1 by rw [w32_i (by omega) (by omega)]; omega, ih fu (by omega) (by omega)]
    have := c_beh_in (N := N) (K := some ((bhF f n l2 kk : Nat) : Int)) ta na hn s64 L2 (show kk < l2.length by omega) hf n 0 N (by omega) (by omega)
    refine Eq.trans this ?_
    by_cases c : plG f (gl l2 kk) n 0 < 0
    · rw [if_pos c, if_pos c]
    · rw [if_neg c, if_neg c]
      exact congrArg some (by omega)
theorem t_lineOf {m : Int} (i100 : mI r h 100 = (n : Int)) (n64 : n ≤ 64) (hf : ∀ k, k < n → mI r (h + 53) k = f k) : ∀ (c i fu : Nat), i + c = n → c < fu → tw_lineOf_l2 N h r m (some (-1)) fu (i : Int) = some (plG f m c i) := by
  intro c
  induction c with
  | zero =>
    intro i fu h1 h2
    obtain ⟨fu, rfl⟩ : ∃ j, fu = j + 1 := ⟨fu - 1, by omega⟩
    unfold tw_lineOf_l2
    rw [i100, if_pos (by omega)]; rfl
  | succ c ih =>
    intro i fu h1 h2
    obtain ⟨fu, rfl⟩ : ∃ j, fu = j + 1 := ⟨fu - 1, by omega⟩
    unfold tw_lineOf_l2 plG
    rw [i100, if_neg (by omega), if_pos (by omega), tn, hf i (by omega), inc32 (by omega)]
    by_cases e : f i = m
    · rw [if_neg (fun z => z e), if_pos e]
    · rw [if_pos e, if_neg e]; exact ih (i + 1) fu (by omega) (by omega)
theorem t_last {K : Int → gMem → Option gMem} {v2 v5 v8 v7 : Int} {u : Nat} (hN : 100 ≤ N) (kS : ShT r h nv u S) (hu : u < 122) (n1 : S.1.1.length ≤ 32) (n2 : S.1.2.length ≤ 10) (i100 : mI r h 100 = (n : Int)) (n64 : n ≤ 64) (hf : ∀ k, k < n → mI r (h + 53) k = f k) : ∀ (kk fu : Nat), kk ≤ (axL S ax).length → kk < fu → tw_comeTogether_l158 N h v2 ax v5 u v7 v8 K fu ((kk : Int) - 1) r = K (lsF f n (axL S ax) kk) r := by
  have alm := axL_le (ax := ax) n1 n2
  have a32 : axM ax ≤ 32 := by unfold axM; split <;> omega
  intro kk
  induction kk with
  | zero =>
    intro fu h1 h2
    obtain ⟨fu, rfl⟩ : ∃ j, fu = j + 1 := ⟨fu - 1, by omega⟩
    unfold tw_comeTogether_l158
    rw [if_pos (by omega)]; rfl
  | succ kk ih =>
    intro fu h1 h2
    obtain ⟨fu, rfl⟩ : ∃ j, fu = j + 1 := ⟨fu - 1, by omega⟩
    have e1 : tw_lineAt h u ax (kk : Int) r = some (tLi r h u ax kk) := t_lineAt hu (by omega)
    unfold tw_comeTogether_l158 lsF
    rw [if_neg (by omega), show ((kk + 1 : Nat) : Int) - 1 = (kk : Int) by omega, e1, Option.bind_some, kS.axl (by omega)]
    unfold tw_lineOf
    have := t_lineOf (N := N) (m := gl (axL S ax) kk) i100 n64 hf n 0 N (by omega) (by omega)
    rw [show ((0 : Nat) : Int) = 0 from rfl] at this
    rw [this, Option.bind_some]
    by_cases c : plG f (gl (axL S ax) kk) n 0 < 0
    · rw [if_neg (by omega), if_pos c, show w32 ((kk : Int) + -1) = (kk : Int) - 1 by rw [w32_i (by omega) (by omega)]; omega]
      exact ih fu (by omega) (by omega)
    · rw [if_pos (by omega), if_neg c]
/-- so far both have these lines -/
def MgS (h : Nat) (s0 r0 : gMem) (arr sz n : Nat) (f : Nat → Int) (s r : gMem) : Prop :=
  Kz (fun _ => False) s0 s ∧ mZ s0 ≤ arr ∧ mT s arr = 100 ∧ mN s arr = sz ∧ n ≤ sz ∧ sz ≤ 64 ∧ (∀ k, k < n → mI s arr k = f k) ∧ mI r h 100 = (n : Int) ∧ (∀ k, k < n → mI r (h + 53) k = f k) ∧ Ex (PtX h) r0 r ∧ (mZ s = mZ s0 + 1 ∧ mS s = mS s0 + sz) ∧ ∀ a, mZ s0 ≤ a → mT s a = 0 ∨ mT s a = 100
theorem MgS.rl (R : Rl x h t nv pa un fs Gs g own rt s0 r0) (M : MgS h s0 r0 arr sz n f s r) : Rl x h t nv pa un fs Gs g own rt s r := by
  obtain ⟨K, m1, m2, m3, m4, m5, m6, m7, m8, Y, m9, m10⟩ := M
  exact (R.new K (fun q hq ht => by have := m10 q hq; omega)).tsc Y (fun a k p => by unfold PtX at p; unfold TSc; omega)
theorem WvC.kp (K : Kz (fun _ => False) s0 s) (ok : gOk s0) (w : WvC s0 wv rt B T) : WvC s wv rt B T := by
  obtain ⟨w1, w2, w3, w4⟩ := w
  have e := fun j => K.rR ok (a := wv) (by omega) (fun f => f) j
  exact ⟨by rw [K.tag ok (by omega)]; exact w1, by rw [e]; exact w2, by rw [e]; exact w3, by rw [e]; exact w4⟩
/-- a mark comes in on both sides -/
theorem MgS.ins (M : MgS h s0 r0 arr sz n f s r) (hp : p ≤ n) (hn : n < sz) {s' r' : gMem} (X : Ex (fun a _ => a = arr) s s') (Y : Ex (PtX h) r r') (fC : ∀ k, k ≤ n → mI s' arr k = insF f p m k) (i100 : mI r' h 100 = ((n + 1 : Nat) : Int)) (fT : ∀ k, k ≤ n → mI r' (h + 53) k = insF f p m k) : MgS h s0 r0 arr sz (n + 1) (insF f p m) s' r' := by
  obtain ⟨K, m1, m2, m3, m4, m5, m6, m7, m8, Y0, m9, m10⟩ := M
  refine ⟨⟨by rw [X.rZ]; exact K.1, fun a ha => by rw [X.rT]; rw [X.rZ] at ha; exact K.2.1 a ha, fun a ha => by rw [X.rT, X.rN]; exact K.2.2.1 a ha, fun a ha hw j => ⟨?_, ?_, ?_⟩⟩, m1, by rw [X.rT]; exact m2, by rw [X.rN]; exact m3, by omega, m5, fun k hk => fC k (by omega), i100, fun k hk => fT k (by omega), Y0.tr Y, by rw [X.rZ, X.rS]; exact m9, fun a ha => by rw [X.rT]; exact m10 a ha⟩
  · rw [X.rI (by omega)]; exact (K.2.2.2 a ha hw j).1
  · rw [X.rL (by omega)]; exact (K.2.2.2 a ha hw j).2.1
  · rw [X.rR]; exact (K.2.2.2 a ha hw j).2.2
def InjF (f : Nat → Int) (n : Nat) : Prop := ∀ a b, a < n → b < n → f a = f b → a = b
theorem InjF.ins (I : InjF f n) (hp : p ≤ n) (hm : ∀ k, k < n → f k ≠ m) : InjF (insF f p m) (n + 1) := by
  intro a b ha hb e
  unfold insF at e
  by_cases a1 : a < p
  · rw [if_pos a1] at e
    by_cases b1 : b < p
    · rw [if_pos b1] at e; exact I a b (by omega) (by omega) e
    · rw [if_neg b1] at e
      by_cases b2 : b = p
      · rw [if_pos b2] at e; exact absurd e (hm a (by omega))
      · rw [if_neg b2] at e; have := I a (b - 1) (by omega) (by omega) e; omega
  · rw [if_neg a1] at e
    by_cases a2 : a = p
    · rw [if_pos a2] at e
      by_cases b1 : b < p
      · rw [if_pos b1] at e; exact absurd e.symm (hm b (by omega))
      · rw [if_neg b1] at e
        by_cases b2 : b = p
        · omega
        · rw [if_neg b2] at e; exact absurd e.symm (hm (b - 1) (by omega))
    · rw [if_neg a2] at e
      by_cases b1 : b < p
      · rw [if_pos b1] at e; have := I (a - 1) b (by omega) (by omega) e; omega
      · rw [if_neg b1] at e
        by_cases b2 : b = p
        · rw [if_pos b2] at e; exact absurd e (hm (a - 1) (by omega))
        · rw [if_neg b2] at e; have := I (a - 1) (b - 1) (by omega) (by omega) e; omega
theorem insF_mem {Q : Int → Prop} (hp : p ≤ n) (hf : ∀ k, k < n → Q (f k)) (hm : Q m) : ∀ k, k < n + 1 → Q (insF f p m k) := by
  intro k hk
  unfold insF
  split
  · exact hf k (by omega)
  · split
    · exact hm
    · exact hf (k - 1) (by omega)
/-- the lines of the one that leads -/
theorem mg_one {K : Int → gMem → Option (Nat × gMem)} {Kt : gMem → Option gMem} {Φ : Nat × gMem → gMem → Prop} (hN : 2000 ≤ N) (R : Rl x h t nv pa un fs Gs g own rt s0 r0) (ha : ax = 0 ∨ ax = 1) (hw : WvC s0 wv rt B T) (hB : rtV nv pa un B) (hT : rtV nv pa un T) (h12 : (S1 = 0 ∧ S2 = T) ∨ (S1 = T ∧ S2 = 0)) (hsz : (axL (Gs S1) ax).length ≤ sz) {v5 : Nat}
    (hK : ∀ n f s r, MgS h s0 r0 arr sz n f s r → InjF f n → (∀ j, j < n → f j ∈ axL (Gs S1) ax) → n ≤ (axL (Gs S1) ax).length → E2 (K n s) (Kt r) Φ) :
    ∀ (c k n fu fv : Nat) (f : Nat → Int) (s r : gMem), k + c = (axL (Gs S1) ax).length → c < fu → c < fv → n ≤ k → MgS h s0 r0 arr sz n f s r → InjF f n → (∀ j, j < n → ∃ e, e < k ∧ f j = gl (axL (Gs S1) ax) e) → E2 (x25_marks_l71 N wv ax (rt S1) (axA s0 (rt S1) ax) v5 arr K fu n k s) (tw_comeTogether_l45 N h (tsN fs B) ax (tsN fs S1) (tsN fs S2) Kt fv k r) Φ := by
  obtain ⟨-, n1, n4, -, -, p4, u4⟩ := R.c5
  have h0 : rtV nv pa un 0 := Or.inl rfl
  have hS1 : rtV nv pa un S1 := by rcases h12 with ⟨e, -⟩ | ⟨e, -⟩ <;> rw [e] <;> assumption
  have le1 := R.2.1.len hS1
  have l1 := tsN_lt (fs := fs) hS1 n4 p4 u4
  have ok := R.1.1.ok
  have L0 := axA_ls (ax := ax) (R.shC hS1)
  have alm := axL_le (ax := ax) le1.1 le1.2
  have n32 := L0.2.2.1
  have nd : (axL (Gs S1) ax).Nodup := by
    have sp := R.shP hS1
    unfold axL; split
    · exact sp.2.1
    · exact sp.1
  intro c
  induction c with
  | zero =>
    intro k n fu fv f s r h1 h2 h3 hn M I hm
    obtain ⟨fu, rfl⟩ : ∃ j, fu = j + 1 := ⟨fu - 1, by omega⟩
    obtain ⟨fv, rfl⟩ : ∃ j, fv = j + 1 := ⟨fv - 1, by omega⟩
    have Rs := M.rl R
    have L := L0.kp M.1 ok (fun f => f)
    unfold x25_marks_l71 tw_comeTogether_l45
    rw [L.2.1, w32_i (by omega) (by omega)]
    exact E2.lg L.1 (E2.lg (by omega) (E2.re ((Rs.shT hS1).axn (by omega)) (E2.rg (by omega) (hK n f s r M I (fun j hj => by
      obtain ⟨e, e1, e2⟩ := hm j hj
      rw [e2]; exact gl_mem (by omega)) (by omega)))))
  | succ c ih =>
    intro k n fu fv f s r h1 h2 h3 hn M I hm
    obtain ⟨fu, rfl⟩ : ∃ j, fu = j + 1 := ⟨fu - 1, by omega⟩
    obtain ⟨fv, rfl⟩ : ∃ j, fv = j + 1 := ⟨fv - 1, by omega⟩
    have Rs := M.rl R
    have L := L0.kp M.1 ok (fun f => f)
    have ws := hw.kp M.1 ok
    have tS := Rs.shT hS1
    have hk : k < (axL (Gs S1) ax).length := by omega
    obtain ⟨m, hm'⟩ : ∃ m, m = gl (axL (Gs S1) ax) k := ⟨_, rfl⟩
    have gm : g32 m := by rw [hm', ← L.2.2.2 k hk]; exact mI_rng _ _ _
    have m1 : 0 ≤ pl (axL (Gs S1) ax) m := by rw [hm', pl_gl nd hk]; omega
    unfold x25_marks_l71 tw_comeTogether_l45
    rw [L.2.1, w32_i (x := ((axL (Gs S1) ax).length : Int)) (by omega) (by omega), tn, L.2.2.2 k hk, ← hm']
    refine E2.lg L.1 (E2.lf (by omega) (E2.lg (by omega) (E2.lg ws.1 (E2.re (tS.axn (by omega)) (E2.rf (by omega) (E2.re (t_lineAt (by omega) (by omega)) ?_))))))
    rw [tS.axl hk, ← hm']
    refine E2.cc (both_isIn hN Rs ha ws hB hT h12 m1) (fun a b z => ?_)
    obtain ⟨z1, z2⟩ := z
    subst z1
    unfold x25_marks_l71_j108 tw_comeTogether_l45_j93
    rw [inc32 (i := k) (by omega)]
    by_cases e : a = 0
    · exact E2.lf (fun z => z e) (E2.rg e (ih (k + 1) n fu fv f s r (by omega) (by omega) (by omega) (by omega) M I (fun j hj => by
        obtain ⟨e, e1, e2⟩ := hm j hj
        exact ⟨e, by omega, e2⟩)))
    · obtain ⟨K, a1, a2, a3, a4, a5, a6, a7, a8, Y, a9, a10⟩ := M
      obtain ⟨r', q1, q2, q3, q4⟩ := t_putLine (N := N) (p := n) (m := m) (by omega) a7 (Nat.le_refl _) (by omega) gm
      unfold g32 at gm
      rw [a7]
      refine E2.lg e (E2.lg (by omega) (E2.lg a2 (E2.lg (by rw [a3]; omega) (E2.ll (E2.rf e (E2.re q1 ?_))))))
      rw [inc32 (by omega), tn]
      have neq : ∀ j, j < n → f j ≠ m := fun j hj z => by
        obtain ⟨e, e1, e2⟩ := hm j hj
        rw [e2, hm'] at z
        have p1 := pl_gl nd (k := e) (by omega)
        have p2 := pl_gl nd hk
        rw [z] at p1; omega
      refine ih (k + 1) (n + 1) fu fv (insF f n m) _ r' (by omega) (by omega) (by omega) (by omega) (MgS.ins ⟨K, a1, a2, a3, a4, a5, a6, a7, a8, Y, a9, a10⟩ (Nat.le_refl _) (by omega) (Ex.rf.I rfl) q2 (fun j hj => ?_) q3 (fun j hj => ?_)) (I.ins (Nat.le_refl _) neq) (insF_mem (Q := fun y => ∃ e, e < k + 1 ∧ y = gl (axL (Gs S1) ax) e) (Nat.le_refl _) (fun j hj => by
        obtain ⟨e, e1, e2⟩ := hm j hj
        exact ⟨e, by omega, e2⟩) ⟨k, by omega, hm'⟩)
      · unfold insF
        by_cases c1 : j = n
        · rw [mIwI2 ⟨rfl, c1⟩, if_neg (by omega), if_pos c1, w32_i (by omega) (by omega)]
        · rw [mIwI1 (fun z => c1 z.2), if_pos (by omega)]; exact a6 j (by omega)
      · rw [q4 j hj]
        unfold insF
        by_cases c1 : j < n
        · rw [if_pos c1, if_pos c1]; exact a8 j c1
        · rw [if_neg c1, if_neg c1, if_pos (by omega), if_pos (by omega)]
end State71
