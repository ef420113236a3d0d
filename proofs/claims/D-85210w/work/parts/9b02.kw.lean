/-! ===== PHASE 2: single writes keep all but what is theirs ===== -/
section KeepW
variable {σ s : gMem} {W : Nat → Prop} {a i t n : Nat}
theorem Kz.wI {v : Int} (K : Kz W σ s) (h : mZ σ ≤ a ∨ W a) : Kz W σ (wI s a i v) :=
  ⟨K.1, K.2.1, K.2.2.1, fun b hb hw k => ⟨by rw [mIwI1 (fun z => by rcases h with h | h; omega; exact hw (by rw [z.1]; exact h))]; exact (K.2.2.2 b hb hw k).1, (K.2.2.2 b hb hw k).2⟩⟩
theorem Kz.wL {v : Int} (K : Kz W σ s) (h : mZ σ ≤ a ∨ W a) : Kz W σ (wL s a i v) :=
  ⟨K.1, K.2.1, K.2.2.1, fun b hb hw k => ⟨(K.2.2.2 b hb hw k).1, by rw [mL_wL, if_neg (fun z => by rcases h with h | h; omega; exact hw (by rw [z.1]; exact h))]; exact (K.2.2.2 b hb hw k).2.1, (K.2.2.2 b hb hw k).2.2⟩⟩
theorem Kz.wR {v : Nat} (K : Kz W σ s) (h : mZ σ ≤ a ∨ W a) : Kz W σ (wR s a i v) :=
  ⟨K.1, K.2.1, K.2.2.1, fun b hb hw k => ⟨(K.2.2.2 b hb hw k).1, (K.2.2.2 b hb hw k).2.1, by rw [mR_wR, if_neg (fun z => by rcases h with h | h; omega; exact hw (by rw [z.1]; exact h))]; exact (K.2.2.2 b hb hw k).2.2⟩⟩
theorem Kz.wN (K : Kz W σ s) : Kz W σ (wN s t n) := by
  obtain ⟨k1, k2, k3, k4⟩ := K
  refine ⟨by rw [mZ_wN]; omega, fun b hb => ?_, fun b hb => ⟨?_, ?_⟩, fun b hb hw k => ⟨?_, ?_, ?_⟩⟩
  · rw [mZ_wN] at hb; rw [mT_wN, if_neg (by omega)]; exact k2 b (by omega)
  · rw [mT_wN, if_neg (by omega)]; exact (k3 b hb).1
  · rw [mN_wN, if_neg (by omega)]; exact (k3 b hb).2
  · rw [mI_wN, if_neg (by omega)]; exact (k4 b hb hw k).1
  · rw [mL_wN, if_neg (by omega)]; exact (k4 b hb hw k).2.1
  · rw [mR_wN, if_neg (by omega)]; exact (k4 b hb hw k).2.2
theorem Kz.wK (K : Kz W σ s) : Kz W σ (wK s a t) := by
  obtain ⟨k1, k2, k3, k4⟩ := K
  refine ⟨by rw [mZ_wK]; omega, fun b hb => ?_, fun b hb => ⟨?_, ?_⟩, fun b hb hw k => ⟨?_, ?_, ?_⟩⟩
  · rw [mZ_wK] at hb; rw [mT_wK, if_neg (by omega)]; exact k2 b (by omega)
  · rw [mT_wK, if_neg (by omega)]; exact (k3 b hb).1
  · rw [mN_wK, if_neg (by omega)]; exact (k3 b hb).2
  · rw [mI_wK, if_neg (by omega)]; exact (k4 b hb hw k).1
  · rw [mL_wK, if_neg (by omega)]; exact (k4 b hb hw k).2.1
  · rw [mR_wK, if_neg (by omega)]; exact (k4 b hb hw k).2.2
theorem Kz.wCI {b sp dp : Nat} (K : Kz W σ s) (h : mZ σ ≤ b ∨ W b) : Kz W σ (wCI s a sp b dp n) :=
  ⟨K.1, K.2.1, K.2.2.1, fun q hq hw k => ⟨by rw [mI_wCI, if_neg (fun z => by rcases h with h | h; omega; exact hw (by rw [z.1]; exact h))]; exact (K.2.2.2 q hq hw k).1, (K.2.2.2 q hq hw k).2⟩⟩
end KeepW
