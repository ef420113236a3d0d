/-! ===== PHASE 2: reading: the parts of a call are copied off the pile ===== -/
section Read30
variable {N x h hi all nv sh M lu0 b b' p q op pa pi : Nat} {bA : Nat → Int} {f : Int → List Int × List Int} {σ σ' σ'' τ τ' τ'' s r σ0 τ0 σ1 τ2 : gMem} {p0 pa0 nd k lu : Nat} {W : Nat → gMem → Option gR}
/-- whether all of them are taken -/
def tkAll (kk : Nat) (tg : Nat → Nat) : Nat → Nat → Bool → Bool
  | 0, _, v => v
  | m + 1, j, v => tkAll kk tg m (j + 1) (v && tkC kk j (tg j))
theorem gPA {t : Nat} (g : gPart t = true) : gAsg 8 t = true := by
  have b := gPart_t g
  have z : ∀ t : Nat, t < 21 → gPart t = true → gAsg 8 t = true := by decide
  exact z t (by omega) g
theorem c_offPile {a n kk : Nat} {v2 : Int} {nds tg : Nat → Nat} {K : Int → gMem → Option gR} (c0 : CR x hi all nv sh bA f σ0) (ha : mZ σ0 ≤ a) (hk : kk < 18) (hn : pi + n ≤ 400) : ∀ (m j fu : Nat) (v : Bool) (s : gMem), CF x σ0 s k → mT s a = 108 → mN s a = n → j + m = n → m < fu → (n ≤ 8 ∨ v = false) → (∀ i, i < n → mR s (x + 1430) (pi + i) = nds i ∧ mT s (nds i) = tg i ∧ gPart (tg i) = true) → (∀ i, i < j → mR s a i = nds i) →
    ∃ s', x6_call_l164 N W (x + 1429) (mR σ0 0 kk) v2 pi a K fu (if v then 1 else 0) j s = K (if tkAll kk tg m j v then 1 else 0) s' ∧ CF x σ0 s' k ∧ mT s' a = 108 ∧ mN s' a = n ∧ (∀ i, i < n → mR s' a i = nds i) ∧ (∀ b j, mI s' b j = mI s b j) ∧ mZ s' = mZ s ∧ (∀ b, mT s' b = mT s b) := by
  have lt0 := c0.lt
  intro m
  induction m with
  | zero =>
    intro j fu v s cf t1 n1 e1 e2 h8 hp hd
    obtain ⟨fu, rfl⟩ : ∃ i, fu = i + 1 := ⟨fu - 1, by omega⟩
    refine ⟨s, ?_, cf, t1, n1, fun i hi => hd i (by omega), fun _ _ => rfl, rfl, fun _ => rfl⟩
    unfold x6_call_l164 tkAll
    rw [if_pos t1, n1, w32_i (by omega) (by omega), if_pos (by omega)]
  | succ m ih =>
    intro j fu v s cf t1 n1 e1 e2 h8 hp hd
    obtain ⟨fu, rfl⟩ : ∃ i, fu = i + 1 := ⟨fu - 1, by omega⟩
    have c := c0.cf cf
    obtain ⟨d1, d2, d3, -, -, -, -⟩ := c.2.2.1
    obtain ⟨p1, p2, p3⟩ := hp j (by omega)
    have vj : ((pi : Int) + (j : Int)).toNat = pi + j := by omega
    have ga := gPA p3
    have na : x + 1430 ≠ a := by omega
    have cf' : CF x σ0 (wR s a j (nds j)) k := cf.wR' ha (fun z => by rw [t1] at z; cases z)
    have c' := c0.cf cf'
    have r0 : mR (wR s a j (nds j)) a j = nds j := by rw [mR_wR, if_pos ⟨rfl, rfl⟩]
    have e0 : mR σ0 0 kk = mR (wR s a j (nds j)) 0 kk := ((cf'.1.2.2.2 0 c0.2.2.2.2.2.1 c0.w0 kk).2.2).symm
    have IH := fun v' h8' => ih (j + 1) fu v' (wR s a j (nds j)) cf' t1 n1 (by omega) (by omega) h8' (fun i hi => by
      obtain ⟨q1, q2, q3⟩ := hp i hi
      refine ⟨?_, q2, q3⟩
      rw [mR_wR, if_neg (fun z => na z.1)]; exact q1) (fun i hi => by
      rw [mR_wR]
      by_cases z : i = j
      · rw [if_pos ⟨rfl, z⟩, z]
      · rw [if_neg (fun y => z y.2)]; exact hd i (by omega))
    have FIN : ∀ v' : Bool, (n ≤ 8 ∨ v' = false) → v' = (v && tkC kk j (tg j)) → (x6_call_l164 N W (x + 1429) (mR σ0 0 kk) v2 pi a K (fu + 1) (if v then 1 else 0) j s = x6_call_l164 N W (x + 1429) (mR σ0 0 kk) v2 pi a K fu (if v' then 1 else 0) ((j + 1 : Nat) : Int) (wR s a j (nds j))) → ∃ s', x6_call_l164 N W (x + 1429) (mR σ0 0 kk) v2 pi a K (fu + 1) (if v then 1 else 0) j s = K (if tkAll kk tg (m + 1) j v then 1 else 0) s' ∧ CF x σ0 s' k ∧ mT s' a = 108 ∧ mN s' a = n ∧ (∀ i, i < n → mR s' a i = nds i) ∧ (∀ b j, mI s' b j = mI s b j) ∧ mZ s' = mZ s ∧ (∀ b, mT s' b = mT s b) := by
      intro v' h8' hv' he
      obtain ⟨s', i1, i2, i3, i4, i5, i6, i7, i8⟩ := IH v' h8'
      refine ⟨s', ?_, i2, i3, i4, i5, i6, i7, i8⟩
      rw [he, i1, hv']; rfl
    have HEAD : ∀ Y : Option gR, (gLet (wR s a j (nds j)) (fun s50 => if (if v then (1 : Int) else 0) = 0 then x6_call_l164_j209 N W (x + 1429) (mR σ0 0 kk) v2 pi a j (x6_call_l164 N W (x + 1429) (mR σ0 0 kk) v2 pi a K fu) K s50 else if 0 ≤ (j : Int) ∧ (j : Int) < (mN s50 a : Int) then if mT s50 (mR σ0 0 kk) = 91 then (x7_takes (mR σ0 0 kk) j (mR s50 a (j : Int).toNat) s50).bind (fun x53 => if x53 = 0 then x6_call_l164_j209 N W (x + 1429) (mR σ0 0 kk) v2 pi a j (x6_call_l164 N W (x + 1429) (mR σ0 0 kk) v2 pi a K fu) K s50 else x6_call_l164_j210 N W (x + 1429) (mR σ0 0 kk) v2 pi a j 1 (x6_call_l164 N W (x + 1429) (mR σ0 0 kk) v2 pi a K fu) K s50) else none else none)) = Y → x6_call_l164 N W (x + 1429) (mR σ0 0 kk) v2 pi a K (fu + 1) (if v then 1 else 0) j s = Y := by
      intro Y hY
      conv => lhs; unfold x6_call_l164
      rw [if_pos t1, n1, w32_i (by omega) (by omega), if_neg (by omega), if_pos c.1.1, d1, if_pos d2, d3, if_pos (by omega), vj, p1, if_pos (Or.inr (by rw [p2]; exact ga)), if_pos (by omega), tn]
      exact hY
    cases v with
    | false =>
      refine FIN false (Or.inr rfl) rfl (HEAD _ ?_)
      show x6_call_l164 N W (x + 1429) (mR σ0 0 kk) v2 pi a K fu 0 (w32 ((j : Int) + 1)) (wR s a j (nds j)) = _
      rw [inc32 (by omega)]; rfl
    | true =>
      have n8 : n ≤ 8 := by
        rcases h8 with z | z
        · exact z
        · cases z
      have tk : x7_takes (mR σ0 0 kk) j (nds j) (wR s a j (nds j)) = some (if tkC kk j (tg j) then 1 else 0) := by
        have := c_takes (nd := nds j) (i := j) c'.2.2.2.1 hk (by omega) (by rw [mT_wR, p2]; exact p3)
        rw [mT_wR, p2, ← e0] at this
        exact this
      have t91 : mT (wR s a j (nds j)) (mR σ0 0 kk) = 91 := by rw [e0]; exact (c'.2.2.2.1.2.1 kk hk).1
      refine FIN (tkC kk j (tg j)) (Or.inl n8) rfl (HEAD _ ?_)
      show (if 0 ≤ (j : Int) ∧ (j : Int) < (mN (wR s a j (nds j)) a : Int) then if mT (wR s a j (nds j)) (mR σ0 0 kk) = 91 then (x7_takes (mR σ0 0 kk) j (mR (wR s a j (nds j)) a (j : Int).toNat) (wR s a j (nds j))).bind (fun x53 => if x53 = 0 then x6_call_l164_j209 N W (x + 1429) (mR σ0 0 kk) v2 pi a j (x6_call_l164 N W (x + 1429) (mR σ0 0 kk) v2 pi a K fu) K (wR s a j (nds j)) else x6_call_l164_j210 N W (x + 1429) (mR σ0 0 kk) v2 pi a j 1 (x6_call_l164 N W (x + 1429) (mR σ0 0 kk) v2 pi a K fu) K (wR s a j (nds j))) else none else none) = _
      rw [mN_wR, n1, if_pos (by omega), if_pos t91, tn, r0, tk, Option.bind_some]
      unfold x6_call_l164_j209 x6_call_l164_j210
      rw [inc32 (by omega)]
      cases tkC kk j (tg j) <;> rfl
end Read30
