/-! ===== PHASE 2: the twin's graph: the value of one cell ===== -/
section TwCellVal
variable {N h s q : Nat} {σ σ' : gMem} {cx : Cx} {l : Fm}
def Zv (h c a k : Nat) : Prop := Pv h 0 a k ∨ Cp h c a k
theorem t_storeF {c : Nat} {s1 : gMem} {v : Vl} (hN : 30 ≤ N) (hc : c < 13120) (X : Ex (Pv h 0) σ s1) (tb : TB s1 h) (g : VH s1 h 0 v) : Ev ((tw_store N h 0 c s1).bind (fun x => some x)) (fun r => Ex (Zv h c) σ r ∧ TB r h ∧ VC r h c v) := by
  refine Ev.c (t_store (d := 0) (by omega) hc hN tb g) (fun r _ y => Ev.r ⟨(X.mono (fun _ _ p => Or.inl p)).tr (y.1.mono (fun _ _ p => Or.inr p)), y.2⟩)
theorem Pv.hp {a k : Nat} (x : Hp h 0 a k) : Pv h 0 a k := (x.g (Nat.le_refl _)).tv
/-- a plain value is laid into its cell -/
theorem t_plainValue {c : Int} {ct : Ct} {cell : Nat} (hN : 400 ≤ N) (hcell : cell < 13120) (ta : TA σ h) (tb : TB σ h) (g : CtT σ h c ct) (hp : ct.2 = []) : Ev (tw_plainValue N h c cell σ) (fun r => Ex (Zv h cell) σ r ∧ TB r h ∧ VC r h cell ct.1) := by
  have g0 : (0 : Int) ≤ 0 ∧ (0 : Int) < ((200 : Nat) : Int) := by omega
  unfold tw_plainValue
  rcases g with ⟨rfl, rfl⟩ | ⟨q, -, -, -, fm⟩ | ⟨q, rfl, -, vp⟩
  · refine Ev.f (fun z => z rfl) (Ev.g g0 (Ev.l (Ev.g g0 (Ev.l ?_))))
    have X : Ex (Hp h 0) σ (wL (wI σ (h + 33) 0 0) (h + 34) 0 0) := (Ex.rf.I Hp.k).L Hp.n
    refine t_storeF (by omega) hcell (X.mono (fun _ _ p => Pv.hp p)) ((tb.I (fun _ => by omega)).L) ?_
    exact VG.e (by rw [mI_wL, mI_wI, if_pos ⟨rfl, rfl⟩]; rfl)
  · exfalso
    have := fm.1
    rw [hp] at this; simp at this
  · obtain ⟨vo, hq, k1, k3, i10, l11, i13, at', i12, b12, tx⟩ := vp
    have e : w32 (((100000 + q : Nat) : Int) - 100000) = (q : Int) := by rw [w32_i (by omega) (by omega)]; omega
    have gq : (0 : Int) ≤ (q : Int) ∧ (q : Int) < ((4200 : Nat) : Int) := by omega
    rw [e, tn, i10]
    refine Ev.g (by omega) (Ev.g gq ?_)
    by_cases c2 : ct.1.1 = 2
    · refine Ev.f (fun z => z c2) (Ev.g gq (Ev.g gq ?_))
      rw [i12, i13]
      have tt := vo.txt
      refine Ev.c (t_text (d := 0) (t := ct.1.2.2) (n := ct.1.2.2.length) (at' := at') (fr := h + 9) (by omega) (by omega) rfl tt.1 tt.2 (by omega) (by omega) (by omega) ta.2.2.1 (by rw [ta.2.2.2.1]; exact b12) tb.2.2.1 tx) (fun r _ y => ?_)
      refine t_storeF (by omega) hcell (y.1.mono (fun _ _ p => Pv.hp p)) (y.2.1 tb) ?_
      rw [vo.k2 c2]; exact y.2.2
    · refine Ev.g c2 (Ev.g gq (Ev.g g0 (Ev.l (Ev.g gq (Ev.g g0 (Ev.l ?_))))))
      rw [mL_wI, l11]
      have X : Ex (Hp h 0) σ (wL (wI σ (h + 33) (0 : Int).toNat ct.1.1) (h + 34) (0 : Int).toNat ct.1.2.1) := (Ex.rf.I Hp.k).L Hp.n
      refine t_storeF (by omega) hcell (X.mono (fun _ _ p => Pv.hp p)) ((tb.I (fun z => by omega)).L) ?_
      refine ⟨vo, ?_, fun _ _ => ?_, fun z => absurd z c2⟩
      · exact wLI_k (d := 0) rfl (by unfold g32; omega)
      · refine wLI_n (d := 0) ?_
        by_cases z1 : ct.1.1 = 1
        · have := vo.k1 z1; unfold g64; omega
        · have := (vo.k3 (by omega)).2; unfold g64; omega
/-- a formula's value is laid into its cell -/
theorem t_formulaValue {c : Int} {cell : Nat} (hN : 400 ≤ N) (hs : s ≤ 40) (hcell : cell < 13120) (hc : c = ((q + 1 : Nat) : Int)) (tc : TCx σ h s cx) (tb : TB σ h) (fm : FmT σ h q l) : Ev (tw_formulaValue N h s c cell σ) (fun r => Ex (Zv h cell) σ r ∧ TB r h ∧ VC r h cell (fix0 (ev cx l))) := by
  obtain ⟨f1, f2, f3, f4, ⟨n, hn, sp⟩, f5, -⟩ := fm
  have g0 : (0 : Int) ≤ 0 ∧ (0 : Int) < ((200 : Nat) : Int) := by omega
  have ec : c - 1 = (q : Int) := by omega
  unfold tw_formulaValue
  have ew : tw_wholeOf h c σ = some ((q + l.length - 1 : Nat) : Int) := by
    unfold tw_wholeOf
    rw [ec, tn, f4, if_pos (by omega), w32_i (by omega) (by omega)]
    congr 1; omega
  refine Ev.e ew (Ev.c (t_work hN hs n 64 (by omega) (q + l.length - 1) 0 l σ sp f5 tc tb (by omega)) (fun r _ y => Ev.g g0 ?_))
  obtain ⟨X, tb', vh⟩ := y
  rw [show (0 : Int).toNat = 0 from rfl, vh.2.1]
  unfold fix0
  by_cases c0 : (ev cx l).1 = 0
  · rw [if_pos c0]
    refine Ev.f (fun z => z c0) (Ev.c (t_number (d := 0) (x := 0) (by omega) (by decide)) (fun r2 _ y2 => ?_))
    exact t_storeF (by omega) hcell (X.tr (y2.1.mono (fun _ _ p => Pv.hp p))) (y2.2.1 tb') y2.2.2
  · rw [if_neg c0]
    exact Ev.g c0 (t_storeF (by omega) hcell X tb' vh)
end TwCellVal
