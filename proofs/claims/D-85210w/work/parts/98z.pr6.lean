/-! ===== PHASE 2: reading: rows that are put together ===== -/
section Read6
variable {N x h hi all nv sh M lu0 b b' : Nat} {bA : Nat → Int} {f : Int → List Int × List Int} {σ σ' σ'' τ τ' τ'' s r : gMem}
/-- a row begins with what has nothing under it -/
theorem Wf.head : ∀ (n : Nat) (l : Fm), Wf n l → ∃ p t, l = p :: t ∧ pK p ≤ 6 := by
  intro n
  induction n with
  | zero => intro l k; exact k.elim
  | succ n ih =>
    intro l k
    obtain ⟨p, ls, k1, k2, k3, k4, k5⟩ := k
    cases ls with
    | nil =>
      refine ⟨p, [], k1, ?_⟩
      have h0 : pA p = 0 := k2.symm
      unfold argsOk at k4
      by_cases c : pK p ≤ 6
      · exact c
      · exfalso
        rw [if_neg c] at k4
        by_cases c7 : pK p = 7
        · rw [if_pos c7] at k4; omega
        · rw [if_neg c7] at k4
          by_cases c3 : pK p < 30
          · rw [if_pos c3] at k4; omega
          · rw [if_neg c3] at k4
            have := k4.1
            unfold leastA at this
            split at this
            · omega
            · split at this <;> omega
    | cons y ys =>
      obtain ⟨p', t, e, hp⟩ := ih y (k5 y List.mem_cons_self)
      exact ⟨p', t ++ (ys.flatten ++ [p]), by rw [k1, List.flatten_cons, e]; simp, hp⟩
theorem getD_left {l m : Fm} {i : Nat} (h : i < l.length) : (l ++ m).getD i mkR = l.getD i mkR := by
  rw [List.getD_eq_getElem?_getD, List.getD_eq_getElem?_getD, List.getElem?_append_left h]
theorem getD_right {l m : Fm} {i : Nat} : (l ++ m).getD (l.length + i) mkR = m.getD i mkR := by
  rw [List.getD_eq_getElem?_getD, List.getD_eq_getElem?_getD, List.getElem?_append_right (by omega), Nat.add_sub_cancel_left]
theorem askd_left {l m : Fm} {i : Nat} (h : i < l.length) (hm : nextRC m = false) : askd (l ++ m) i = askd l i := by
  unfold askd
  rw [getD_left h]
  congr 1
  by_cases c : i + 1 < l.length
  · rw [List.drop_append_of_le_length (by omega)]
    cases e : l.drop (i + 1) with
    | nil => have := List.drop_eq_nil_iff.mp e; omega
    | cons y ys => rfl
  · have e : i + 1 = l.length := by omega
    rw [e, List.drop_left, List.drop_length, hm]; rfl
theorem askd_right {l m : Fm} {i : Nat} : askd (l ++ m) (l.length + i) = askd m i := by
  unfold askd
  rw [getD_right]
  congr 2
  rw [show l.length + i + 1 = l.length + (i + 1) by omega, List.drop_append]
  simp
theorem nextRC_row {n : Nat} {l m : Fm} (w : Wf n l) : nextRC (l ++ m) = false := by
  obtain ⟨p, t, e, hp⟩ := Wf.head n l w
  rw [e]
  show decide (pK p = 41 ∨ pK p = 42) = false
  exact decide_eq_false (by omega)
/-- rows one behind the other -/
def RwS (τ : gMem) (h : Nat) (nv : Nat) : Nat → List Fm → Prop
  | _, [] => True
  | b, l :: ls => RwT τ h b nv l ∧ RwS τ h nv (b + l.length) ls
/-- what is told of one part of a row -/
def RwI (τ : gMem) (h b nv : Nat) (l : Fm) (i : Nat) : Prop := LabT τ h (b + i) (l.getD i mkR) ∧ (∃ at' : Nat, mI τ (h + 18) (b + i) = at' ∧ ((at' + (pX (l.getD i mkR)).length : Nat) : Int) ≤ mI τ h 19) ∧ PtOk (l.getD i mkR) ∧ mI τ (h + 24) (b + i) = ((pF (l.getD i mkR) + (if askd l i then 16 else 0) : Nat) : Int) ∧ pF (l.getD i mkR) < 16 ∧ pW (l.getD i mkR) < nv
theorem RwT.wf {l : Fm} (k : RwT τ h b nv l) : Wf l.length l := SpT.wf _ _ _ k.1
theorem RwS.at {m : Fm} (hm : nextRC m = false) : ∀ (ls : List Fm) (b : Nat), RwS τ h nv b ls → ∀ i, i < ls.flatten.length → RwI τ h b nv (ls.flatten ++ m) i := by
  intro ls
  induction ls with
  | nil => intro b _ i hi; exact absurd hi (Nat.not_lt_zero _)
  | cons l ls ih =>
    intro b k i hi
    obtain ⟨k1, k2⟩ := k
    rw [List.flatten_cons, List.length_append] at hi
    rw [List.flatten_cons, List.append_assoc]
    have nx : nextRC (ls.flatten ++ m) = false := by
      cases ls with
      | nil => exact hm
      | cons y ys => rw [List.flatten_cons, List.append_assoc]; exact nextRC_row k2.1.wf
    by_cases c : i < l.length
    · have := k1.2.2 i c
      unfold RwI
      rw [getD_left c, askd_left c nx]; exact this
    · have := ih (b + l.length) k2 (i - l.length) (by omega)
      unfold RwI at this ⊢
      rw [show i = l.length + (i - l.length) by omega, getD_right, askd_right, show b + (l.length + (i - l.length)) = b + l.length + (i - l.length) by omega]
      exact this
theorem RwS.sp : ∀ (ls : List Fm) (b : Nat), RwS τ h nv b ls → ∀ i (hi : i < ls.length), SpT τ h ls[i].length (b + ls.flatten.length - 1 - (ls.drop (i + 1)).flatten.length) ls[i] := by
  intro ls
  induction ls with
  | nil => intro b _ i hi; exact absurd hi (Nat.not_lt_zero _)
  | cons l ls ih =>
    intro b k i hi
    obtain ⟨k1, k2⟩ := k
    rw [List.length_cons] at hi
    cases i with
    | zero =>
      have e : b + (l :: ls).flatten.length - 1 - ((l :: ls).drop (0 + 1)).flatten.length = b + l.length - 1 := by
        rw [List.flatten_cons, List.length_append, List.drop_succ_cons, List.drop_zero]; have := k1.2.1; omega
      rw [e]; exact k1.1
    | succ i =>
      have := ih (b + l.length) k2 i (by omega)
      rw [List.flatten_cons, List.length_append, List.drop_succ_cons]
      rw [show b + (l.length + ls.flatten.length) - 1 = b + l.length + ls.flatten.length - 1 by omega]
      exact this
theorem mkO_k {k n : Nat} : pK (mkO k n) = k ∧ pA (mkO k n) = n ∧ pV (mkO k n) = 0 ∧ pX (mkO k n) = [] ∧ pR1 (mkO k n) = -1 ∧ pC1 (mkO k n) = -1 ∧ pR2 (mkO k n) = -1 ∧ pC2 (mkO k n) = -1 ∧ pF (mkO k n) = 0 ∧ pW (mkO k n) = -1 := ⟨rfl, rfl, rfl, rfl, rfl, rfl, rfl, rfl, rfl, rfl⟩
theorem flat_leF {ls : List Fm} {i : Nat} (hi : i < ls.length) : ls[i].length ≤ ls.flatten.length := by
  have := congrArg (fun z => (List.flatten z).length) (List.take_append_drop i ls)
  rw [List.drop_eq_getElem_cons hi] at this
  simp only [List.flatten_append, List.flatten_cons, List.length_append] at this
  omega
/-- a row under a part that was made behind it, what is asked for its place being marked -/
theorem RwT.mk {ls : List Fm} {k : Nat} (hs : ∀ i (hi : i < ls.length), SpT τ h ls[i].length (b + ls.flatten.length - 1 - (ls.drop (i + 1)).flatten.length) ls[i]) (hr : ∀ i, i < ls.flatten.length → RwI τ h b nv (ls.flatten ++ [mkO k ls.length]) i) (pt : PAt τ h (b + ls.flatten.length) k (ls.length : Nat) ((1 + ls.flatten.length : Nat) : Int)) (po : PtOk (mkO k ls.length)) (ao : argsOk (mkO k ls.length) (ls.map lab)) (hb : b + ls.flatten.length < 60420) (lu : 0 ≤ mI τ h 19) : RwT τ h b nv (ls.flatten ++ [mkO k ls.length]) := by
  obtain ⟨p1, p2, p3, p4, p5, p6, p7, p8, p9, p10, p11, p12⟩ := pt
  have len : (ls.flatten ++ [mkO k ls.length]).length = ls.flatten.length + 1 := by rw [List.length_append]; rfl
  have L : LabT τ h (b + ls.flatten.length) (mkO k ls.length) := ⟨hb, p1, p2, p4, ⟨0, p5, Nat.zero_le _, fun i hi => absurd hi (Nat.not_lt_zero _)⟩, p6, p7, p8, p9, p10, Or.inl p11, p12⟩
  refine ⟨?_, by omega, fun i hi => ?_⟩
  · rw [len, show b + (ls.flatten.length + 1) - 1 = b + ls.flatten.length by omega]
    refine ⟨mkO k ls.length, ls, rfl, rfl, L, po, ao, by rw [p3, len, Nat.add_comm], by omega, fun i hi => ?_⟩
    exact SpT.mono _ _ _ _ (hs i hi) (flat_leF hi)
  · rw [len] at hi
    by_cases c : i < ls.flatten.length
    · exact hr i c
    · have e : i = ls.flatten.length + 0 := by omega
      unfold RwI at *
      rw [e, getD_right]
      have ea : askd (ls.flatten ++ [mkO k ls.length]) (ls.flatten.length + 0) = false := by
        rw [askd_right]; unfold askd; exact Bool.and_false _
      rw [ea, Nat.add_zero]
      exact ⟨L, ⟨0, p5, lu⟩, po, p11, show 0 < 16 by decide, show (-1 : Int) < nv by omega⟩
/-- a row under a part made behind it -/
theorem RwT.op {ls : List Fm} {k : Nat} (rs : RwS τ h nv b ls) (hk : k ≠ 41 ∧ k ≠ 42) (pt : PAt τ h (b + ls.flatten.length) k (ls.length : Nat) ((1 + ls.flatten.length : Nat) : Int)) (po : PtOk (mkO k ls.length)) (ao : argsOk (mkO k ls.length) (ls.map lab)) (hb : b + ls.flatten.length < 60420) (lu : 0 ≤ mI τ h 19) : RwT τ h b nv (ls.flatten ++ [mkO k ls.length]) :=
  RwT.mk (RwS.sp ls b rs) (RwS.at (m := [mkO k ls.length]) (show decide (k = 41 ∨ k = 42) = false from decide_eq_false (by omega)) ls b rs) pt po ao hb lu
/-- a node that was read, and its row of parts -/
def ND (LZ : Prop) (σ : gMem) (nd : Nat) (τ : gMem) (h nv b m : Nat) : Prop :=
  (mI τ (h + 16) (b + m - 1) = (m : Int) ∧ 0 < m) ∧ (gPart (mT σ nd) = true ∧ (mT σ nd = 17 ↔ mI τ (h + 14) (b + m - 1) = 6) ∧ (mT σ nd = 15 ↔ mI τ (h + 14) (b + m - 1) = 5) ∧ (mT σ nd = 13 ↔ mI τ (h + 14) (b + m - 1) = 4)) ∧
  (LZ → ∃ l, l.length = m ∧ IsP σ m nd l ∧ RwT τ h b nv l)
theorem gPart_t {t : Nat} (g : gPart t = true) : 11 ≤ t ∧ t ≤ 20 := by
  unfold gPart at g
  rw [List.contains_iff_mem] at g
  simp at g
  omega
theorem ND.mv {LZ LZ' : Prop} {nd m k b2 : Nat} (n : ND LZ σ nd τ h nv b m) (c : CR x hi all nv sh bA f σ) (e : CF x σ σ' k) (t : TF (lu0 + hi) h τ τ' b2) (hb : b + m ≤ b2) (hz : LZ' → LZ) : ND LZ' σ' nd τ' h nv b m := by
  obtain ⟨⟨n1, n2⟩, ⟨n3, n4, n5, n6⟩, n7⟩ := n
  have nt := gPart_t n3
  have na : ∀ o k, 14 ≤ o → o ≤ 25 → k < b2 → ¬ TFP h b2 (mI τ h 19).toNat (h + o) k := fun o k h1 h2 h3 p => by
    rcases p with p | ⟨o', z1, z2, z3, z4⟩ | p <;> omega
  have eT : mT σ' nd = mT σ nd := e.1.tag c.2.2.2.2.1 (by omega)
  refine ⟨⟨by rw [t.1.rI (na 16 _ (by omega) (by omega) (by omega))]; exact n1, n2⟩, ?_, fun z => ?_⟩
  · rw [eT, t.1.rI (na 14 _ (by omega) (by omega) (by omega))]; exact ⟨n3, n4, n5, n6⟩
  · obtain ⟨l, l1, l2, l3⟩ := n7 (hz z)
    exact ⟨l, l1, c.isp e _ _ _ l2, l3.tf t (by omega)⟩
end Read6
