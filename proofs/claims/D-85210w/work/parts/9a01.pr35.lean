/-! ===== PHASE 2: reading: the parts of a call, as they lie ===== -/
section Read35
variable {N x h hi all nv sh M lu0 b b' p q op pa pi : Nat} {bA : Nat → Int} {f : Int → List Int × List Int} {σ σ' σ'' τ τ' τ'' s r σ0 τ0 σ1 τ2 : gMem} {p0 pa0 nd k kk lu : Nat} {LZ LZ' : Prop}
/-- parts on the pile from pi on, their rows of parts from b on -/
def NDs (LZ : Prop) (x : Nat) (σ τ : gMem) (h nv : Nat) : Nat → Nat → List Nat → Prop
  | _, _, [] => True
  | b, pi, m :: ms => ND LZ σ (mR σ (x + 1430) pi) τ h nv b m ∧ NDs LZ x σ τ h nv (b + m) (pi + 1) ms
theorem CF.pl (e : CF x σ σ' k) {j : Nat} (hj : (j : Int) < mI σ (x + 1429) 11) : mR σ' (x + 1430) j = mR σ (x + 1430) j := e.2.2.2.2.2.2.2.2 j hj
theorem NDs.mv {b2 : Nat} (c : CR x hi all nv sh bA f σ) (e : CF x σ σ' k) (t : TF (lu0 + hi) h τ τ' b2) (hz : LZ' → LZ) : ∀ (ms : List Nat) (b pi : Nat), b + ms.sum ≤ b2 → ((pi + ms.length : Nat) : Int) ≤ mI σ (x + 1429) 11 → NDs LZ x σ τ h nv b pi ms → NDs LZ' x σ' τ' h nv b pi ms := by
  intro ms
  induction ms with
  | nil => intro _ _ _ _ _; trivial
  | cons m ms ih =>
    intro b pi h1 h2 n
    obtain ⟨n1, n2⟩ := n
    rw [List.sum_cons] at h1
    rw [List.length_cons] at h2
    refine ⟨?_, ih _ _ (by omega) (by omega) n2⟩
    rw [e.pl (by omega)]
    exact n1.mv c e t (by omega) hz
theorem NDs.snoc : ∀ (ms : List Nat) (b pi m : Nat), NDs LZ x σ τ h nv b pi ms → ND LZ σ (mR σ (x + 1430) (pi + ms.length)) τ h nv (b + ms.sum) m → NDs LZ x σ τ h nv b pi (ms ++ [m]) := by
  intro ms
  induction ms with
  | nil => intro b pi m _ n; exact ⟨n, trivial⟩
  | cons a ms ih =>
    intro b pi m n1 n2
    refine ⟨n1.1, ih _ _ _ n1.2 ?_⟩
    rw [List.sum_cons, List.length_cons] at n2
    rw [show pi + 1 + ms.length = pi + (ms.length + 1) by omega, show b + a + ms.sum = b + (a + ms.sum) by omega]; exact n2
theorem NDs.spc : ∀ (ms rs : List Nat) (b pi : Nat), NDs LZ x σ τ h nv b pi ms → SpC τ h b rs → SpC τ h (b + ms.sum) (ms.reverse ++ rs) := by
  intro ms
  induction ms with
  | nil => intro rs b pi _ k; exact k
  | cons m ms ih =>
    intro rs b pi n k
    obtain ⟨⟨⟨y1, y2⟩, -⟩, n2⟩ := n
    rw [List.reverse_cons, List.append_assoc, List.sum_cons, show b + (m + ms.sum) = b + m + ms.sum by omega]
    refine ih (m :: rs) (b + m) (pi + 1) n2 ⟨y2, by omega, y1, ?_⟩
    rw [Nat.add_sub_cancel]; exact k
theorem NDs.tag : ∀ (ms : List Nat) (b pi : Nat), NDs LZ x σ τ h nv b pi ms → ∀ i, i < ms.length → gPart (mT σ (mR σ (x + 1430) (pi + i))) = true := by
  intro ms
  induction ms with
  | nil => intro b pi _ i hi; exact absurd hi (Nat.not_lt_zero _)
  | cons m ms ih =>
    intro b pi n i hi
    cases i with
    | zero => exact n.1.2.1.1
    | succ i =>
      rw [List.length_cons] at hi
      have := ih _ _ n.2 i (by omega)
      rw [show pi + (i + 1) = pi + 1 + i by omega]; exact this
/-- their formulas -/
theorem NDs.rows (z : LZ) : ∀ (ms : List Nat) (b pi : Nat), NDs LZ x σ τ h nv b pi ms → ∃ ls : List Fm, ls.length = ms.length ∧ ls.flatten.length = ms.sum ∧ RwS τ h nv b ls ∧ ∀ i (hi : i < ls.length), IsP σ ms.sum (mR σ (x + 1430) (pi + i)) ls[i] ∧ ∀ kk j, kk < 18 → tkC kk j (mT σ (mR σ (x + 1430) (pi + i))) = takes (nmk kk) j (lab ls[i]) := by
  intro ms
  induction ms with
  | nil => intro b pi _; exact ⟨[], rfl, rfl, trivial, fun i hi => absurd hi (Nat.not_lt_zero _)⟩
  | cons m ms ih =>
    intro b pi n
    obtain ⟨⟨⟨y1, y2⟩, ⟨y3, y4, y5, y6⟩, y7⟩, n2⟩ := n
    obtain ⟨ls, a1, a2, a3, a4⟩ := ih _ _ n2
    obtain ⟨l, u1, u2, u3⟩ := y7 z
    have kl : mI τ (h + 14) (b + m - 1) = ((pK (lab l) : Nat) : Int) := by have := u3.lab; rw [u1] at this; exact this
    refine ⟨l :: ls, by simp [a1], by simp [a2, u1], ⟨u3, by rw [u1]; exact a3⟩, fun i hi => ?_⟩
    cases i with
    | zero =>
      refine ⟨IsP.mono _ _ _ _ u2 (by rw [List.sum_cons]; omega), fun kk j hk => ?_⟩
      rw [← tkT_takes]
      show _ = tkT (nmk kk) j ((pK (lab l) : Nat) : Int)
      rw [← kl]
      exact tk_both hk y4 y5 y6
    | succ i =>
      have hi' : i < ls.length := by simpa using hi
      obtain ⟨b1, b2⟩ := a4 i hi'
      rw [show pi + (i + 1) = pi + 1 + i by omega]
      exact ⟨IsP.mono _ _ _ _ b1 (by rw [List.sum_cons]; omega), b2⟩
theorem tkAll_snoc {tg : Nat → Nat} : ∀ (m j : Nat) (v : Bool), tkAll kk tg (m + 1) j v = (tkAll kk tg m j v && tkC kk (j + m) (tg (j + m))) := by
  intro m
  induction m with
  | zero => intro j v; rfl
  | succ m ih =>
    intro j v
    show tkAll kk tg (m + 1) (j + 1) (v && tkC kk j (tg j)) = _
    rw [ih, show j + 1 + m = j + (m + 1) by omega]; rfl
theorem tkAll_cg {tg tg' : Nat → Nat} : ∀ (m j : Nat) (v : Bool), (∀ i, j ≤ i → i < j + m → tg i = tg' i) → tkAll kk tg m j v = tkAll kk tg' m j v := by
  intro m
  induction m with
  | zero => intro j v _; rfl
  | succ m ih =>
    intro j v e
    show tkAll kk tg m (j + 1) (v && tkC kk j (tg j)) = tkAll kk tg' m (j + 1) (v && tkC kk j (tg' j))
    rw [e j (Nat.le_refl _) (by omega)]
    exact ih _ _ (fun i h1 h2 => e i (by omega) (by omega))
theorem tkAll_f {tg : Nat → Nat} : ∀ (m j : Nat), tkAll kk tg m j false = false := by
  intro m
  induction m with
  | zero => intro j; rfl
  | succ m ih => intro j; exact ih (j + 1)
theorem tkAll_t {tg : Nat → Nat} : ∀ (m j : Nat), tkAll kk tg m j true = true → ∀ i, j ≤ i → i < j + m → tkC kk i (tg i) = true := by
  intro m
  induction m with
  | zero => intro j _ i h1 h2; omega
  | succ m ih =>
    intro j e i h1 h2
    have e' : tkAll kk tg m (j + 1) (tkC kk j (tg j)) = true := e
    cases z : tkC kk j (tg j) with
    | false => rw [z, tkAll_f] at e'; cases e'
    | true =>
      rw [z] at e'
      by_cases c : i = j
      · rw [c]; exact z
      · exact ih (j + 1) e' i (by omega) (by omega)
theorem Ex.wI2 {P : Nat → Nat → Prop} {a i : Nat} {v : Int} (e : Ex P σ s) : Ex P (wI σ a i v) (wI s a i v) := by
  refine ⟨e.1, fun b j n => ⟨?_, (e.2 b j n).2⟩⟩
  show gu2 s.1 a i (Int32.ofInt v) b j = gu2 σ.1 a i (Int32.ofInt v) b j
  unfold gu2
  by_cases c : b = a ∧ j = i
  · rw [if_pos c, if_pos c]
  · rw [if_neg c, if_neg c]; exact (e.2 b j n).1
/-- a part that was marked, if it is a place -/
def NDx (LZ : Prop) (σ : gMem) (nd : Nat) (τ : gMem) (h nv b m : Nat) : Prop :=
  ∃ u : Int, ND LZ σ nd (wI τ (h + 24) (b + m - 1) u) h nv b m ∧ w32 u = u ∧ mI τ (h + 24) (b + m - 1) = if mI τ (h + 14) (b + m - 1) = 5 then bOr u 16 else u
theorem NDx.mv {nd m k b2 : Nat} (n : NDx LZ σ nd τ h nv b m) (c : CR x hi all nv sh bA f σ) (e : CF x σ σ' k) (t : TF (lu0 + hi) h τ τ' b2) (hb : b + m ≤ b2) (m0 : 0 < m) (hz : LZ' → LZ) : NDx LZ' σ' nd τ' h nv b m := by
  obtain ⟨u, n1, n2, n3⟩ := n
  have na : ∀ o k, 14 ≤ o → o ≤ 25 → k < b2 → ¬ TFP h b2 (mI τ h 19).toNat (h + o) k := fun o k h1 h2 h3 p => by
    rcases p with p | ⟨o', z1, z2, z3, z4⟩ | p <;> omega
  refine ⟨u, n1.mv (lu0 := lu0) (hi := hi) c e ⟨?_, ?_, ?_⟩ hb hz, n2, ?_⟩
  · rw [show mI (wI τ (h + 24) (b + m - 1) u) h 19 = mI τ h 19 from mIwI1 (by omega)]
    exact t.1.wI2
  · rw [mIwI1 (by omega)]; exact t.2.1
  · rw [mIwI1 (by omega), mIwI1 (by omega)]
    refine ⟨t.2.2.1, t.2.2.2.1, fun b i => ?_, ?_⟩
    · have B : By τ (h + 9) := fun i => by have := b i; rwa [mIwI1 (by omega)] at this
      rw [mIwI1 (by omega)]; exact t.2.2.2.2.1 B i
    · rw [mIwI1 (by omega), mIwI1 (by omega), mIwI1 (by omega), mIwI1 (by omega)]; exact t.2.2.2.2.2
  · rw [t.1.rI (na 24 _ (by omega) (by omega) (by omega)), t.1.rI (na 14 _ (by omega) (by omega) (by omega))]; exact n3
/-- the parts of a call of the kk-th name, v: all of them are taken -/
def PL (kk : Nat) (LZ : Prop) (x : Nat) (σ τ : gMem) (h nv b pi : Nat) (ms : List Nat) (v : Bool) : Prop :=
  NDs (LZ ∧ ¬ (kk = 16 ∨ kk = 17)) x σ τ h nv b pi ms ∧ ((kk = 16 ∨ kk = 17) → v = true → ∀ m, ms = [m] → NDx LZ σ (mR σ (x + 1430) pi) τ h nv b m) ∧ v = tkAll kk (fun i => mT σ (mR σ (x + 1430) (pi + i))) ms.length 0 true
theorem PL.mv {ms : List Nat} {v : Bool} {b2 : Nat} (l : PL kk LZ x σ τ h nv b pi ms v) (c : CR x hi all nv sh bA f σ) (e : CF x σ σ' k) (t : TF (lu0 + hi) h τ τ' b2) (hz : LZ' → LZ) (hb : b + ms.sum ≤ b2) (hp : ((pi + ms.length : Nat) : Int) ≤ mI σ (x + 1429) 11) : PL kk LZ' x σ' τ' h nv b pi ms v := by
  obtain ⟨l1, l2, l3⟩ := l
  refine ⟨NDs.mv c e t (fun z => ⟨hz z.1, z.2⟩) ms b pi hb hp l1, fun a1 a2 m em => ?_, ?_⟩
  · subst em
    have m0 : 0 < m := l1.1.1.2
    rw [e.pl (by have : ((pi + 1 : Nat) : Int) ≤ mI σ (x + 1429) 11 := hp; omega)]
    exact (l2 a1 a2 m rfl).mv c e t (by simpa using hb) m0 hz
  · rw [l3]
    refine tkAll_cg _ _ _ (fun i _ hi => ?_)
    have g := gPart_t (NDs.tag ms b pi l1 i (by omega))
    show mT σ (mR σ (x + 1430) (pi + i)) = mT σ' (mR σ' (x + 1430) (pi + i))
    rw [e.pl (by omega), e.1.tag c.2.2.2.2.1 (by omega)]
theorem PL.step {ms : List Nat} {v v' : Bool} {m : Nat} (l : PL kk LZ x σ τ h nv b pi ms v) (nd : ND (LZ ∧ ¬ (kk = 16 ∨ kk = 17)) σ (mR σ (x + 1430) (pi + ms.length)) τ h nv (b + ms.sum) m) (nx : (kk = 16 ∨ kk = 17) → v' = true → ms = [] → NDx LZ σ (mR σ (x + 1430) pi) τ h nv b m) (hv : v' = (v && tkC kk ms.length (mT σ (mR σ (x + 1430) (pi + ms.length))))) : PL kk LZ x σ τ h nv b pi (ms ++ [m]) v' := by
  obtain ⟨l1, l2, l3⟩ := l
  refine ⟨NDs.snoc _ _ _ _ l1 nd, fun a1 a2 m' em => ?_, ?_⟩
  · have : ms = [] := by
      cases ms with
      | nil => rfl
      | cons a ms => simp at em
    subst this
    have : m = m' := by simpa using em
    subst this
    exact nx a1 a2 rfl
  · rw [List.length_append, List.length_singleton, tkAll_snoc, ← l3, Nat.zero_add]; exact hv
end Read35
