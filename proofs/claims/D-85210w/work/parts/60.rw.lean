/-! ===== what is read behind a write ===== -/
section Rw
variable (σ : gMem) (a k b j t n r c sp dp : Nat) (x : Int)
theorem mI_wI : mI (wI σ a k x) b j = if b = a ∧ j = k then w32 x else mI σ b j := by unfold mI wI w32 gu2; dsimp only; split <;> rfl
theorem mL_wL : mL (wL σ a k x) b j = if b = a ∧ j = k then w64 x else mL σ b j := by unfold mL wL w64 gu2; dsimp only; split <;> rfl
theorem mR_wR : mR (wR σ a k n) b j = if b = a ∧ j = k then n else mR σ b j := rfl
theorem mL_wI (q i : Nat) : mL (wI σ a k x) q i = mL σ q i := rfl
theorem mR_wI (q i : Nat) : mR (wI σ a k x) q i = mR σ q i := rfl
theorem mT_wI (q : Nat) : mT (wI σ a k x) q = mT σ q := rfl
theorem mN_wI (q : Nat) : mN (wI σ a k x) q = mN σ q := rfl
theorem mZ_wI : mZ (wI σ a k x) = mZ σ := rfl
theorem mS_wI : mS (wI σ a k x) = mS σ := rfl
theorem mI_wL (q i : Nat) : mI (wL σ a k x) q i = mI σ q i := rfl
theorem mR_wL (q i : Nat) : mR (wL σ a k x) q i = mR σ q i := rfl
theorem mT_wL (q : Nat) : mT (wL σ a k x) q = mT σ q := rfl
theorem mN_wL (q : Nat) : mN (wL σ a k x) q = mN σ q := rfl
theorem mZ_wL : mZ (wL σ a k x) = mZ σ := rfl
theorem mS_wL : mS (wL σ a k x) = mS σ := rfl
theorem mI_wR (q i : Nat) : mI (wR σ a k n) q i = mI σ q i := rfl
theorem mL_wR (q i : Nat) : mL (wR σ a k n) q i = mL σ q i := rfl
theorem mT_wR (q : Nat) : mT (wR σ a k n) q = mT σ q := rfl
theorem mN_wR (q : Nat) : mN (wR σ a k n) q = mN σ q := rfl
theorem mZ_wR : mZ (wR σ a k n) = mZ σ := rfl
theorem mS_wR : mS (wR σ a k n) = mS σ := rfl
theorem mI_wX (q i : Nat) : mI (wX σ n) q i = mI σ q i := rfl
theorem mL_wX (q i : Nat) : mL (wX σ n) q i = mL σ q i := rfl
theorem mR_wX (q i : Nat) : mR (wX σ n) q i = mR σ q i := rfl
theorem mT_wX (q : Nat) : mT (wX σ n) q = mT σ q := rfl
theorem mN_wX (q : Nat) : mN (wX σ n) q = mN σ q := rfl
theorem mL_wCI (q i : Nat) : mL (wCI σ a sp b dp n) q i = mL σ q i := rfl
theorem mR_wCI (q i : Nat) : mR (wCI σ a sp b dp n) q i = mR σ q i := rfl
theorem mT_wCI (q : Nat) : mT (wCI σ a sp b dp n) q = mT σ q := rfl
theorem mN_wCI (q : Nat) : mN (wCI σ a sp b dp n) q = mN σ q := rfl
theorem mZ_wCI : mZ (wCI σ a sp b dp n) = mZ σ := rfl
theorem mS_wCI : mS (wCI σ a sp b dp n) = mS σ := rfl
theorem mI_wCL (q i : Nat) : mI (wCL σ a sp b dp n) q i = mI σ q i := rfl
theorem mR_wCL (q i : Nat) : mR (wCL σ a sp b dp n) q i = mR σ q i := rfl
theorem mT_wCL (q : Nat) : mT (wCL σ a sp b dp n) q = mT σ q := rfl
theorem mN_wCL (q : Nat) : mN (wCL σ a sp b dp n) q = mN σ q := rfl
theorem mZ_wCL : mZ (wCL σ a sp b dp n) = mZ σ := rfl
theorem mS_wCL : mS (wCL σ a sp b dp n) = mS σ := rfl
theorem mI_wCR (q i : Nat) : mI (wCR σ a sp b dp n) q i = mI σ q i := rfl
theorem mL_wCR (q i : Nat) : mL (wCR σ a sp b dp n) q i = mL σ q i := rfl
theorem mT_wCR (q : Nat) : mT (wCR σ a sp b dp n) q = mT σ q := rfl
theorem mN_wCR (q : Nat) : mN (wCR σ a sp b dp n) q = mN σ q := rfl
theorem mZ_wCR : mZ (wCR σ a sp b dp n) = mZ σ := rfl
theorem mS_wCR : mS (wCR σ a sp b dp n) = mS σ := rfl
theorem mZ_wX : mZ (wX σ n) = mZ σ + 1 := rfl
theorem mS_wX : mS (wX σ n) = mS σ + n := rfl
theorem mI_wCI (q i : Nat) : mI (wCI σ a sp b dp n) q i = if q = b ∧ dp ≤ i ∧ i < dp + n then mI σ a (sp + (i - dp)) else mI σ q i := by unfold mI wCI; dsimp only; first | done | (split <;> rfl)
theorem mL_wCL (q i : Nat) : mL (wCL σ a sp b dp n) q i = if q = b ∧ dp ≤ i ∧ i < dp + n then mL σ a (sp + (i - dp)) else mL σ q i := by unfold mL wCL; dsimp only; first | done | (split <;> rfl)
theorem mR_wCR (q i : Nat) : mR (wCR σ a sp b dp n) q i = if q = b ∧ dp ≤ i ∧ i < dp + n then mR σ a (sp + (i - dp)) else mR σ q i := by unfold mR wCR; dsimp only; first | done | (split <;> rfl)
theorem mI_wN : mI (wN σ t n) b j = if b = mZ σ then 0 else mI σ b j := by unfold mI wN; dsimp only; first | done | (split <;> rfl)
theorem mI_wK : mI (wK σ a t) b j = if b = mZ σ then mI σ a j else mI σ b j := by unfold mI wK; dsimp only; first | done | (split <;> rfl)
theorem mL_wN : mL (wN σ t n) b j = if b = mZ σ then 0 else mL σ b j := by unfold mL wN; dsimp only; first | done | (split <;> rfl)
theorem mL_wK : mL (wK σ a t) b j = if b = mZ σ then mL σ a j else mL σ b j := by unfold mL wK; dsimp only; first | done | (split <;> rfl)
theorem mR_wN : mR (wN σ t n) b j = if b = mZ σ then 0 else mR σ b j := by unfold mR wN; dsimp only; first | done | (split <;> rfl)
theorem mR_wK : mR (wK σ a t) b j = if b = mZ σ then mR σ a j else mR σ b j := by unfold mR wK; dsimp only; first | done | (split <;> rfl)
theorem mT_wN : mT (wN σ t n) b = if b = mZ σ then t else mT σ b := rfl
theorem mN_wN : mN (wN σ t n) b = if b = mZ σ then n else mN σ b := rfl
theorem mZ_wN : mZ (wN σ t n) = mZ σ + 1 := rfl
theorem mS_wN : mS (wN σ t n) = mS σ + n := rfl
theorem mT_wK : mT (wK σ a t) b = if b = mZ σ then t else mT σ b := rfl
theorem mN_wK : mN (wK σ a t) b = if b = mZ σ then mN σ a else mN σ b := rfl
theorem mZ_wK : mZ (wK σ a t) = mZ σ + 1 := rfl
theorem mS_wK : mS (wK σ a t) = mS σ + mN σ a := rfl
theorem gLet_eq {α : Type} (m : gMem) (f : gMem → Option α) : gLet m f = f m := rfl
end Rw
