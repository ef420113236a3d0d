/-! ===== PHASE 2: reading: calls ===== -/
section Read40
variable {N x h hi all nv sh M lu0 b b' p q op pa pi : Nat} {bA : Nat → Int} {f : Int → List Int × List Int} {σ σ' σ'' τ τ' τ'' s r σ0 τ0 σ1 τ2 : gMem} {p0 pa0 nd k kk lu : Nat} {W : Nat → gMem → Option gR} {Wt : gMem → Option gMem}
/-- the node and the row of a call, at its end -/
theorem call_nd {fin : gMem} {A B : Nat} {ms : List Nat} {good : Bool} (c37 : CR x hi all nv sh bA f σ) (pl : PL kk (mI σ (x + 1429) 14 = 0) x σ τ h nv (M + pa0) pi ms good) (hk : kk < 18) (cf : CF x σ s k) (X : Kz (fun a => a = x + 1429) s fin) (m6 : M ≤ 60000) (s4 : pa0 + ms.sum ≤ 400) (lu : 0 ≤ mI τ h 19)
    (lz : mI fin (x + 1429) 14 = 0 → good = true ∧ mI σ (x + 1429) 14 = 0 ∧ leastA (nmk kk) ≤ ms.length ∧ ms.length ≤ mostA (nmk kk)) (pt : PAt τ h (M + (pa0 + ms.sum)) (nmk kk) (ms.length : Nat) ((1 + ms.sum : Nat) : Int)) (b18 : mT fin B = 18) (b0 : mR fin B 0 = mR fin 0 kk) (b1 : mR fin B 1 = A) (a108 : mT fin A = 108) (an : mN fin A = ms.length) (aR : ∀ i, i < ms.length → mR fin A i = mR σ (x + 1430) (pi + i)) : ND (mI fin (x + 1429) 14 = 0) fin B τ h nv (M + pa0) (ms.sum + 1) := by
  obtain ⟨n1, n2, n3⟩ := nmk_hi kk hk
  refine ⟨⟨?_, by omega⟩, ⟨by rw [b18]; decide, ?_, ?_, ?_⟩, fun z => ?_⟩
  · rw [show M + pa0 + (ms.sum + 1) - 1 = M + (pa0 + ms.sum) by omega, pt.2.2.1, Nat.add_comm]
  · rw [show M + pa0 + (ms.sum + 1) - 1 = M + (pa0 + ms.sum) by omega, pt.1, b18]; omega
  · rw [show M + pa0 + (ms.sum + 1) - 1 = M + (pa0 + ms.sum) by omega, pt.1, b18]; omega
  · rw [show M + pa0 + (ms.sum + 1) - 1 = M + (pa0 + ms.sum) by omega, pt.1, b18]; omega
  · obtain ⟨g1, g2, h1, h2⟩ := lz z
    subst g1
    obtain ⟨ls, a1, a2, po, ao, rw', isp⟩ := pl.row g2 hk h1 h2 (by rw [show M + pa0 + ms.sum = M + (pa0 + ms.sum) by omega]; exact pt) (by omega) lu
    refine ⟨ls.flatten ++ [mkO (nmk kk) ls.length], by rw [List.length_append, a2]; rfl, ⟨mkO (nmk kk) ls.length, ls, rfl, rfl, ?_, po, ao, fun i hi => ?_⟩, rw'⟩
    · refine Or.inr (Or.inr (Or.inr (Or.inr (Or.inr (Or.inr (Or.inr (Or.inr ⟨b18, kk, hk, b0, by rw [b1]; exact a108, ?_⟩)))))))
      rw [b1, an, a1]
    · have ec : chd fin B i = mR σ (x + 1430) (pi + i) := by
        unfold chd
        rw [if_neg (by rw [b18]; decide), if_neg (by rw [b18]; decide), b1]
        exact aR i (by omega)
      rw [ec]
      have cs := c37.cf cf
      have t6 := cs.1.1
      refine IsP.kp X cs.2.2.2.2.1 cs.2.2.2.2.2.1 ⟨by show ¬ 0 = x + 1429; omega, fun a w => ?_⟩ _ _ _ (c37.isp cf _ _ _ (isp i hi))
      have w' : a = x + 1429 := w
      rw [w', t6]
      exact ⟨by decide, fun z => (by cases z), fun z => by cases z⟩
end Read40
