/-! ===== the law's end, out of its function's answer ===== -/
section GTop
theorem st_le {p : Program} {l : Launch} {e : Env} {R R' : Room} {s : State} {m : MethodId} {args : Array Value} {below : List Frame} {meth : Method} {c : Code} {T : State} {locs : List Loc} {cells slots : Nat} (X : Stand p l e R s m args below meth c T locs cells slots) (hf : R'.frames ≤ R.frames) (hl : R'.locals ≤ R.locals) (hc : R'.cells ≤ R.cells) (hs : R'.slots ≤ R.slots) : Stand p l e R' s m args below meth c T locs cells slots := by
  have h := X.room
  refine { X with room := ?_ }
  simp only [State.hasRoom, Bool.and_eq_true, decide_eq_true_eq] at h ⊢
  obtain ⟨⟨⟨⟨h1, h2, h3, h4, h5, h6⟩, h7⟩, h8⟩, h9⟩ := h
  exact ⟨⟨⟨⟨by omega, by omega, by omega, by omega, by omega, h6⟩, by omega⟩, by omega⟩, h9⟩
theorem law_top {p : Program} {e : Env} {s : State} {m : MethodId} {below : List Frame} {meth : Method} {c : Code} {l : Launch} {b N : Nat} {ω : gW} {σ0 σ1 : gMem} (hl : l.stackTraces = false) (hC : gCx mu_l_law p s m #[Value.ref b] meth c) (hK : gKK ω s) (hS : gSim ω σ0 s.heap) (hlo : ω.lo = s.heap.size) (hb : b < s.heap.size) (hlaw : l_law N (b + 1) σ0 = some (1, σ1)) (hz : mZ σ1 - mZ σ0 ≤ 785023) (hs : mS σ1 - mS σ0 ≤ 6732844) :
    W p l e room_1 s m #[Value.ref b] below meth c s.heap [] 0 0 (lw_Z below #[Value.ref b] s) (entryFrame m ([Value.ref b] : List Value).toArray 7) := by
  intro T hT X
  have X' : Stand p l e (gRm 1626 785023 6732844) s m #[Value.ref b] below meth c T [] 0 0 := st_le X (Nat.le_of_ble_eq_true rfl) (Nat.le_of_ble_eq_true rfl) (Nat.le_refl _) (Nat.le_refl _)
  have g := (ok_l_law (ω := ω) (l := l) (d := 1626) (N := N) (σ := σ0) (v0 := b + 1) hl (Nat.le_of_ble_eq_true rfl) hS.ok (1, σ1) hlaw).2 785023 6732844 hz hs
  have hlv := lv_entry (([vR (b + 1)] : List gV).map gval) (n := 7) (Nat.le_of_ble_eq_true rfl)
  rw [gent_map] at hlv
  have g2 := g p e s m #[Value.ref b] below meth c s.heap [] 0 0 785023 6732844 _ hC hK hS va_S.rf gE.rf (Nat.le_of_eq hlo) ⟨by omega, by omega⟩ hlv
  rw [lg_entry_eq]
  obtain ⟨t, a1, o, b1, b2, b3⟩ := g2 T hT X'
  refine ⟨t, a1, o, b1, b2, ?_⟩
  rcases b3 with ⟨⟨v, σ', e1, ⟨e2, e3⟩, -⟩, L, hF, hL⟩ | ⟨q, -, E, ce, L, ⟨σ', hf, -⟩, -⟩
  · injection e2 with e2
    subst e2
    refine ⟨e1, hF.1, hF.2.1, hF.2.2.weaken (fun y hy hlt => ?_) (Nat.le_refl _) (Nat.le_refl _)⟩
    have := hL y hy
    exact absurd hlt (Nat.not_lt.mpr (hlo ▸ this))
  · exact absurd hf.1 (fun q => by cases q)
end GTop
